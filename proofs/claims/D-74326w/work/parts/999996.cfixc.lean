set_option maxRecDepth 100000
set_option maxHeartbeats 4000000
/-! the loop behind an insertion -/
section
variable {K : Nat → Nat → Nat}
/-- what stands behind an insertion -/
def fxO (K : Nat → Nat → Nat) (post : Unit → NM → Prop) (m cmp : Nat) (N : NM) (W : List (Nat × Int)) : Prop :=
  ∀ (N' : NM) g s md, N' m = some (oMp cmp (some g) s md) → tT K N' (some g) none W → (∃ ko vo l r, N' g = some (nOd ko vo l r none true)) → k22 N N' → (∀ z, on1 m z + (ad W).count z = 0 → N' z = N z) → post () N'
theorem fxO.st {post : Unit → NM → Prop} {m cmp : Nat} {N N1 : NM} {W : List (Nat × Int)} (h : fxO K post m cmp N W) (hk : k22 N N1) (hf : ∀ z, on1 m z + (ad W).count z = 0 → N1 z = N z) : fxO K post m cmp N1 W :=
  fun N' g s md h1 h2 h3 h4 h5 => h N' g s md h1 h2 h3 (hk.tr h4) (fun z hz => by rw [h5 z hz, hf z hz])
theorem t_out {post : Unit → NM → Prop} {m cmp n a : Nat} {N : NM} {q : Option Nat} {LL RR L : List (Nat × Int)} (hC : tC K N m cmp n (some a) q LL RR) (hT : tT K N (some a) q L) (hc : ∀ z, on1 m z + (ad (LL ++ (L ++ RR))).count z ≤ 1) (h : fxO K post m cmp N (LL ++ (L ++ RR))) : wJ21_fixAfterInsertion_258 K post m N := by
  obtain ⟨rt, s, md, hm, hW, r1, r2⟩ := hC.plug _ _ _ _ _ _ hT
  obtain ⟨g, eg⟩ : ∃ g, rt = some g := by
    by_cases n0 : n = 0
    · exact ⟨a, r1 n0⟩
    · obtain ⟨g, ko, vo, l, r, e, -⟩ := r2 n0
      exact ⟨g, e⟩
  subst eg
  exact t_258 hm hW hc (fun N' h1 h2 h3 h4 h5 => h N' g s md h1 h2 h3 h4 h5)
theorem t_exit {post : Unit → NM → Prop} {m cmp f n a x w : Nat} {N : NM} {q : Option Nat} {LL RR L : List (Nat × Int)} (hx : ∃ ko vo l r c, N x = some (nOd ko vo l r (some w) c)) (hw : ∃ ko vo l r q, N w = some (nOd ko vo l r q true)) (hC : tC K N m cmp n (some a) q LL RR) (hT : tT K N (some a) q L) (hc : ∀ z, on1 m z + (ad (LL ++ (L ++ RR))).count z ≤ 1) (h : fxO K post m cmp N (LL ++ (L ++ RR))) : wJ21_fixAfterInsertion_5 K post (f + 1) m (some x) N := by
  have o := t_out hC hT hc h
  obtain ⟨rt, s, md, hm⟩ := hC.map
  obtain ⟨ko, vo, l, r, c, hx⟩ := hx
  obtain ⟨ko', vo', l', r', q', hw⟩ := hw
  unfold wJ21_fixAfterInsertion_5
  refine ⟨fun e => (by cases e), fun a14 e => ?_⟩
  cases e
  exact ⟨_, _, _, _, _, _, _, _, _, hm, fun _ => o, fun _ => ⟨_, _, _, _, _, _, hx, w, rfl, _, _, _, _, _, _, hw, b_f (by decide) o⟩⟩
theorem t_fix {post : Unit → NM → Prop} {m cmp : Nat} : ∀ (f n a : Nat) (N : NM) (q : Option Nat) (LL RR L : List (Nat × Int)), n + 2 ≤ f → tC K N m cmp n (some a) q LL RR → tT K N (some a) q L → (∀ z, on1 m z + (ad (LL ++ (L ++ RR))).count z ≤ 1) → fxO K post m cmp N (LL ++ (L ++ RR)) → wJ21_fixAfterInsertion_5 K post f m (some a) N := by
  intro f
  induction f with
  | zero => intro n a N q LL RR L hf; omega
  | succ f ih =>
    intro n a N q LL RR L hf hC hT hc h
    have o := t_out hC hT hc h
    obtain ⟨rt, s, md, hm, hW, r1, r2⟩ := hC.plug _ _ _ _ _ _ hT
    obtain ⟨ko, vo, k, c, l, r, X1, X2, ha, -⟩ := hT.get
    unfold wJ21_fixAfterInsertion_5
    refine ⟨fun e => (by cases e), fun a14 e => ?_⟩
    cases e
    refine ⟨_, _, _, _, _, _, _, _, _, hm, fun _ => o, fun hne => ?_⟩
    cases n with
    | zero => exact absurd (r1 rfl).symm hne
    | succ n =>
      obtain ⟨b, kob, vob, kb, cb, lb, rb, g, LL', RR', L', e1, hb, ib, bb, hC', hblk, hdir⟩ := hC
      subst e1
      refine ⟨_, _, _, _, _, _, ha, b, rfl, _, _, _, _, _, _, hb, ?_⟩
      cases cb with
      | true => exact b_f (by decide) o
      | false =>
        cases n with
        | zero => exact absurd (hblk rfl) (by decide)
        | succ n =>
          obtain ⟨gg, kog, vog, kg, cg, lg, rg, g2, LL2, RR2, L4, e1, hg, ig, bg, hC2, hblk2, hdir2⟩ := hC'
          subst e1
          refine b_t rfl (p_par ha (p_par ha (p_par hb (p_left hg ?_))))
          obtain ⟨f, rfl⟩ : ∃ f', f = f' + 1 := ⟨f - 1, by omega⟩
          have go : ∀ W : List (Nat × Int), LL ++ (L ++ RR) = LL2 ++ (W ++ RR2) → (∀ z, (ad W).count z = on1 b z + on1 gg z + (ad L).count z + (ad L').count z + (ad L4).count z) →
              (∀ z, on1 m z + on1 b z + on1 gg z + (ad LL2 ++ ad RR2).count z + (ad L).count z + (ad L').count z + (ad L4).count z ≤ 1) ∧
              (∀ N' : NM, tC K N' m cmp n (some gg) g2 LL2 RR2 → tT K N' (some gg) g2 W → k22 N N' → (∀ z, on1 m z + on1 b z + on1 gg z + (ad LL2 ++ ad RR2).count z + (ad L).count z + (ad L').count z + (ad L4).count z = 0 → N' z = N z) → wJ21_fixAfterInsertion_5 K post (f + 1) m (some gg) N') ∧
              (∀ (N' : NM) x w, (∃ ko vo l r c, N' x = some (nOd ko vo l r (some w) c)) → (∃ ko vo l r q, N' w = some (nOd ko vo l r q true)) → tC K N' m cmp n (some w) g2 LL2 RR2 → tT K N' (some w) g2 W → k22 N N' → (∀ z, on1 m z + on1 b z + on1 gg z + (ad LL2 ++ ad RR2).count z + (ad L).count z + (ad L').count z + (ad L4).count z = 0 → N' z = N z) → wJ21_fixAfterInsertion_5 K post (f + 1) m (some x) N') := by
            intro W eW cW
            rw [eW] at hc h
            have ct : ∀ z, (ad (LL2 ++ (W ++ RR2))).count z = on1 b z + on1 gg z + (ad LL2 ++ ad RR2).count z + (ad L).count z + (ad L').count z + (ad L4).count z := fun z => by
              rw [ad_app, ad_app, List.count_append, List.count_append, cW z, List.count_append]; omega
            refine ⟨fun z => by have := hc z; rw [ct z] at this; omega, fun N' h1 h2 h3 h4 => ?_, fun N' x w hx hw h1 h2 h3 h4 => ?_⟩
            · exact ih n gg N' g2 LL2 RR2 W (by omega) h1 h2 hc (h.st h3 (fun z hz => h4 z (by rw [ct z] at hz; omega)))
            · exact t_exit hx hw h1 h2 hc (h.st h3 (fun z hz => h4 z (by rw [ct z] at hz; omega)))
          rcases hdir2 with ⟨d1, d2, d3, ty⟩ | ⟨d1, d2, d3, ty⟩
          · subst d1 d2 d3
            refine b_t rfl ?_
            rcases hdir with ⟨f1, f2, f3, ts⟩ | ⟨f1, f2, f3, ts⟩
            · subst f1 f2 f3
              obtain ⟨g1, g3, g4⟩ := go ((L ++ (b, kb) :: L') ++ (gg, kg) :: L4) (by simp only [List.append_assoc, List.cons_append]) (fun z => by rw [ad_cnt, ad_cnt]; omega)
              exact t_fxBLeft (K := K) (K5 := fun x0 x1 N => wJ21_fixAfterInsertion_5 K post (f + 1) x0 x1 N) (post := post) (sb := rb) hC2 hblk2 hg ig bg ib bb hT ts ty (Or.inl ⟨hb, rfl⟩) g1 g3 g4
            · subst f1 f2 f3
              obtain ⟨g1, g3, g4⟩ := go ((L' ++ (b, kb) :: L) ++ (gg, kg) :: L4) (by simp only [List.append_assoc, List.cons_append, List.nil_append]) (fun z => by rw [ad_cnt, ad_cnt]; omega)
              exact t_fxBLeft (K := K) (K5 := fun x0 x1 N => wJ21_fixAfterInsertion_5 K post (f + 1) x0 x1 N) (post := post) (sb := lb) hC2 hblk2 hg ig bg ib bb hT ts ty (Or.inr ⟨hb, rfl⟩) g1 g3 g4
          · subst d1 d2 d3
            have nl : ¬ some b = lg := fun e => by
              rw [← e] at ty
              have m1 := ty.mem
              have := hc b
              rcases hdir with ⟨f1, f2, f3, ts⟩ | ⟨f1, f2, f3, ts⟩
              · rw [f2, f3] at this
                simp only [ad_app, ad_cons, List.count_append, cnt_cons] at this
                have := cntP m1; have := on1_s b; omega
              · rw [f2, f3] at this
                simp only [ad_app, ad_cons, List.count_append, cnt_cons] at this
                have := cntP m1; have := on1_s b; omega
            refine b_f nl ?_
            rcases hdir with ⟨f1, f2, f3, ts⟩ | ⟨f1, f2, f3, ts⟩
            · subst f1 f2 f3
              obtain ⟨g1, g3, g4⟩ := go (L4 ++ (gg, kg) :: (L ++ (b, kb) :: L')) (by simp only [List.append_assoc, List.cons_append, List.nil_append]) (fun z => by rw [ad_cnt, ad_cnt]; omega)
              exact t_fxBRight (K := K) (K5 := fun x0 x1 N => wJ21_fixAfterInsertion_5 K post (f + 1) x0 x1 N) (post := post) (sb := rb) hC2 hblk2 hg ig bg ib bb hT ts ty (Or.inr ⟨hb, rfl⟩) g1 g3 g4
            · subst f1 f2 f3
              obtain ⟨g1, g3, g4⟩ := go (L4 ++ (gg, kg) :: (L' ++ (b, kb) :: L)) (by simp only [List.append_assoc, List.cons_append, List.nil_append]) (fun z => by rw [ad_cnt, ad_cnt]; omega)
              exact t_fxBRight (K := K) (K5 := fun x0 x1 N => wJ21_fixAfterInsertion_5 K post (f + 1) x0 x1 N) (post := post) (sb := lb) hC2 hblk2 hg ig bg ib bb hT ts ty (Or.inl ⟨hb, rfl⟩) g1 g3 g4
/-- a new node stands in its place -/
theorem t_add32 {post : Unit → NM → Prop} {m cmp n e ko mc ms : Nat} {k : Int} {N : NM} {vo q : Option Nat} {LL RR : List (Nat × Int)} (hC : tC K N m cmp n (some e) q LL RR) (he : N e = some (nOd ko vo none none q true)) (ik : iAt K N ko (iI (-k))) (bk : -3000 ≤ k ∧ k ≤ 3000) (hc : ∀ z, on1 m z + (ad (LL ++ ([(e, k)] ++ RR))).count z ≤ 1) (h : fxO K post m cmp N (LL ++ ([(e, k)] ++ RR))) : wJ21_addEntry_32 K post m e mc ms N := by
  obtain ⟨rt, s, md, hm⟩ := hC.map
  have em : e ≠ m := fun c => by
    have := hc e
    simp only [ad_app, ad_cons, List.count_append, cnt_cons] at this
    rw [← c] at this; have := on1_s e; omega
  unfold wJ21_addEntry_32 wJ21_fixAfterInsertion
  refine ⟨_, _, _, _, _, _, _, _, _, hm, e, rfl, _, _, _, _, _, _, he, fun N10 e10 => ⟨n + 2, ?_⟩⟩
  have h10 : N10 e = some (nOd ko vo none none q false) := at_up e10
  have k10 : k22 N N10 := by rw [e10]; exact k22.up (k22.rf N) he (by decide)
  have ne : ∀ z ∈ ad LL ++ ad RR, z ≠ e := fun z hz c => by
    rw [c] at hz
    have := hc e
    simp only [ad_app, ad_cons, List.count_append, cnt_cons] at this
    have h2 := cntP hz
    rw [List.count_append] at h2
    have := on1_s e; omega
  refine t_fix (n + 2) n e N10 q LL RR [(e, k)] (Nat.le_refl _) (hC.fr _ _ _ _ _ (fun z hz => by rw [e10, up_ne _ _ _ (ne z hz)]) (by rw [e10, up_ne _ _ _ (Ne.symm em)]) k10) (tT.mk (L1 := []) h10 (ik.k k10) bk tT.nil tT.nil) hc (fun N' g s' md' h1 h2 h3 h4 h5 => ?_)
  refine ⟨_, _, _, _, _, _, _, _, _, h1, fun N43 e43 N46 e46 => ?_⟩
  rw [e43, up_up] at e46
  obtain ⟨ko', vo', l', r', hg⟩ := h3
  have gm : g ≠ m := fun c => by rw [c, h1] at hg; cases hg
  have k46 : k22 N' N46 := by rw [e46]; exact k22.up (k22.rf N') h1 (by decide)
  refine h N46 g _ _ (at_up e46) (h2.fr (fun z hz => ?_) k46) ⟨ko', vo', l', r', at_ne e46 gm hg⟩ ((k10.tr h4).tr k46) (fun z hz => ?_)
  · rw [e46, up_ne _ _ _ (fun c => by have := hc z; have := cntP hz; rw [c] at *; have := on1_s m; omega)]
  · rw [e46, up_ne _ _ _ (fun c => by rw [c] at hz; have := on1_s m; omega), h5 z hz, e10, up_ne _ _ _ (fun c => by
      rw [c] at hz
      simp only [ad_app, ad_cons, List.count_append, cnt_cons] at hz
      have := on1_s e; omega)]
end
