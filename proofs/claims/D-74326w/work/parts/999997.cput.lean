set_option maxRecDepth 100000
set_option maxHeartbeats 4000000
/-! the map: a number is put, a number is looked for -/
section
variable {K : Nat → Nat → Nat}
theorem c_cmpF {post : Int32 → NM → Prop} {N : NM} {c x1 x2 : Nat} {v1 v2 : Int} (h1 : iAt K N x1 (iI v1)) (h2 : iAt K N x2 (iI v2)) (b1 : -3000 ≤ v1 ∧ v1 ≤ 3000) (b2 : -3000 ≤ v2 ∧ v2 ≤ 3000) (hc : N c = some (eO 13 [])) (lt : v1 < v2 → post 1 N) (gt : v2 < v1 → post (-1) N) (eq : v1 = v2 → post 0 N) : wX7_compare K post N c x1 x2 := by
  unfold wX7_compare wX7_compare_2 wJ23_intValue
  refine ⟨_, h1, _, h2, hc, _, h1, _, h1, _, h2, _, h2, ?_⟩
  dsimp only
  rw [iI_le (by omega) (by omega) (by omega) (by omega)]
  refine ⟨fun c => ⟨_, h1, _, h1, _, h2, _, h2, ?_⟩, fun c => lt (by omega)⟩
  rw [iI_le (by omega) (by omega) (by omega) (by omega)]
  exact ⟨fun c2 => eq (by omega), fun c2 => gt (by omega)⟩
theorem tS.ex {N : NM} : ∀ (n : Nat) (h q : Option Nat) (L : List (Nat × Int)), tS K N n h q L → ∀ z ∈ ad L, ∃ u, N z = some u
  | 0, h, q, L, hS, z, hz => by rw [hS.2] at hz; cases hz
  | n + 1, h, q, L, hS, z, hz => by
    rcases hS with e | ⟨a, ko, vo, k, c, l, r, L1, L2, e1, e2, e3, e4, e5, e6, e7⟩
    · rw [e.2] at hz; cases hz
    · rw [e5, ad_app, ad_cons] at hz
      rcases List.mem_append.mp hz with h | h
      · exact tS.ex n _ _ _ e6 z h
      · rcases List.mem_cons.mp h with h | h
        · exact ⟨_, by rw [h]; exact e2⟩
        · exact tS.ex n _ _ _ e7 z h
theorem k22.new {N N' : NM} {e : Nat} {u : NE} (h : k22 N N') (he : N e = none) : k22 N (va_up N' e (some u)) := fun z v hz => by
  rw [up_ne _ _ _ (fun c => by rw [c, he] at hz; cases hz)]; exact h z v hz
theorem c_mk26 {post : Unit → NM → Prop} {N N5 : NM} {e : Nat} {ko vo q : Option Nat} (h5 : N5 = va_up N e (some (eO 20 [va_rf none, va_rf none, va_rf none, va_rf none, va_rf none, .int 0]))) (h : ∀ N', N' = va_up N e (some (eO 20 [va_rf ko, va_rf vo, va_rf none, va_rf none, va_rf q, .int (cV true)])) → post () N') : wJ26_init K post N5 e ko vo q := by
  unfold wJ26_init
  refine ⟨_, _, _, _, _, _, at_up h5, fun N8 e8 N11 e11 N14 e14 N17 e17 => h N17 ?_⟩
  rw [e17, e14, e11, e8, h5, up_up, up_up, up_up, up_up]
  rfl
/-- what a new number leaves -/
def ptO (K : Nat → Nat → Nat) (post : Option Nat → NM → Prop) (m cmp : Nat) (k : Int) (N : NM) (W : List (Nat × Int)) : Prop :=
  ∀ (A B : List (Nat × Int)) e (N' : NM) g s md, W = A ++ B → N e = none → N' m = some (oMp cmp (some g) s md) → tT K N' (some g) none (A ++ (e, k) :: B) → (∃ ko vo l r, N' g = some (nOd ko vo l r none true)) → (∀ p ∈ A, p.2 < k) → (∀ p ∈ B, k < p.2) → k22 N N' → (∀ z, z ≠ e → on1 m z + (ad W).count z = 0 → N' z = N z) → post none N'
/-- a new leaf is linked -/
theorem t_lnk {post : Option Nat → NM → Prop} {m cmp d a e ko mc ms : Nat} {k : Int} {N N18 : NM} {cell : NE} {vo q : Option Nat} {LL RR A B L : List (Nat × Int)} (hC : tC K N m cmp d (some a) q LL RR) (hT : tT K N (some a) q L) (hc : ∀ z, on1 m z + (ad (LL ++ (L ++ RR))).count z ≤ 1) (he : N e = none)
    (h18 : N18 = va_up (va_up N e (some (nOd ko vo none none (some a) true))) a (some cell)) (hC' : (∀ z, z ≠ e → z ≠ a → N18 z = N z) → N18 a = some cell → k22 N N18 → tC K N18 m cmp (d + 1) (some e) (some a) A B) (eW : LL ++ (L ++ RR) = A ++ B) (hA : ∀ p ∈ A, p.2 < k) (hB : ∀ p ∈ B, k < p.2)
    (ik : iAt K N ko (iI (-k))) (bk : -3000 ≤ k ∧ k ≤ 3000) (h : ptO K post m cmp k N (LL ++ (L ++ RR))) : wJ21_addEntry_32 K (fun _ N78 => post none N78) m e mc ms N18 := by
  obtain ⟨rt, s, md, hm, ⟨nn, hW⟩, -⟩ := hC.plug _ _ _ _ _ _ hT
  have eW0 : (ad (LL ++ (L ++ RR))).count e = 0 := cnt0 (fun hz => by
    obtain ⟨u, hu⟩ := hW.ex _ _ _ _ e hz
    rw [he] at hu; cases hu)
  have em : e ≠ m := fun c => by rw [c, hm] at he; cases he
  obtain ⟨ko', vo', k', c, l, r, L1, L2, ha, -⟩ := hT.get
  have ae : a ≠ e := fun c => by rw [c, he] at ha; cases ha
  have k18 : k22 N N18 := by
    rw [h18]
    exact k22.up ((k22.rf N).new he) (by rw [up_ne _ _ _ ae]; exact ha) (by decide)
  have f18 : ∀ z, z ≠ e → z ≠ a → N18 z = N z := fun z z1 z2 => by rw [h18, up_ne _ _ _ z2, up_ne _ _ _ z1]
  have h18e : N18 e = some (nOd ko vo none none (some a) true) := by rw [h18, up_ne _ _ _ (Ne.symm ae)]; exact up_eq _ _ _
  have aW : 1 ≤ (ad (LL ++ (L ++ RR))).count a := by
    rw [ad_app, ad_app, List.count_append, List.count_append]
    have := cntP hT.mem; omega
  have ct : ∀ z, (ad (A ++ ([(e, k)] ++ B))).count z = on1 e z + (ad (LL ++ (L ++ RR))).count z := fun z => by
    rw [show A ++ ([(e, k)] ++ B) = A ++ (e, k) :: B from rfl, ad_cnt, eW, ad_app, List.count_append]; omega
  refine t_add32 (hC' f18 (at_up h18) k18) h18e (ik.k k18) bk (fun z => ?_) (fun N' g s md h1 h2 h3 h4 h5 => ?_)
  · rw [ct z]
    by_cases c : z = e
    · rw [c, eW0, on1_s, on1_0 em]; omega
    · rw [on1_0 c]; have := hc z; omega
  · refine h A B e N' g s md eW he h1 h2 h3 hA hB (k18.tr h4) (fun z ze hz => ?_)
    rw [h5 z (by rw [ct z, on1_0 ze]; omega)]
    exact f18 z ze (fun c => by rw [c] at hz; omega)
theorem t_put30 {post : Option Nat → NM → Prop} {m cmp ko mc ms : Nat} {vo : Option Nat} {k : Int} {x3 : Int32} {N : NM} (hcmp : N cmp = some (eO 13 [])) (ik : iAt K N ko (iI (-k))) (bk : -3000 ≤ k ∧ k ≤ 3000) (hMC : 1 ≤ mc) (hMS : 6 ≤ ms) :
    ∀ (n d a : Nat) (q : Option Nat) (LL RR L : List (Nat × Int)), tS K N n (some a) q L → tC K N m cmp d (some a) q LL RR → (d = 0 → ∀ ko vo l r q c, N a = some (nOd ko vo l r q c) → c = true) → (∀ z, on1 m z + (ad (LL ++ (L ++ RR))).count z ≤ 1) → (LL ++ (L ++ RR)).Pairwise (fun p q => p.2 < q.2) → (∀ p ∈ LL, p.2 < k) → (∀ p ∈ RR, k < p.2) → (∀ p ∈ L, p.2 ≠ k) → ptO K post m cmp k N (LL ++ (L ++ RR)) → wJ21_put_2_30 K post n m ko vo x3 (some a) (some cmp) mc ms N := by
  intro n
  induction n with
  | zero => intro d a q LL RR L hS; cases hS.1
  | succ n ih =>
    intro d a q LL RR L hS hC hbk hc hs hl hr hn h
    have hT : tT K N (some a) q L := ⟨n + 1, hS⟩
    rcases hS with e | ⟨a', ko', vo', k', c, l, r, L1, L2, e1, ha, ik', bk', eL, t1, t2⟩
    · cases e.1
    cases e1
    subst eL
    obtain ⟨rt, s, md, hm⟩ := hC.map
    have hck : d = 0 → c = true := fun d0 => hbk d0 _ _ _ _ _ _ ha
    have sp := (List.pairwise_append.mp hs).2
    have sp2 := List.pairwise_append.mp (List.pairwise_append.mp sp.1).1
    have sp3 := List.pairwise_cons.mp sp2.2.1
    have sp4 := (List.pairwise_append.mp sp.1).2.2
    unfold wJ21_put_2_30
    refine ⟨a, rfl, _, _, _, _, _, _, ha, cmp, rfl, ko', rfl, hcmp, c_cmpF ik ik' (by omega) (by omega) hcmp (fun lt => b_t (by decide) (b_f (by decide) ⟨_, _, _, _, _, _, ha, ?_⟩)) (fun gt => b_f (by decide) ⟨_, _, _, _, _, _, ha, ?_⟩) (fun eq => absurd (by omega) (hn (a, k') (List.mem_append_right _ (List.mem_cons_self ..))))⟩
    · have eW : LL ++ ((L1 ++ (a, k') :: L2) ++ RR) = (LL ++ (L1 ++ [(a, k')])) ++ (L2 ++ RR) := by simp only [List.append_assoc, List.cons_append, List.nil_append]
      have hA : ∀ p ∈ LL ++ (L1 ++ [(a, k')]), p.2 < k := fun p hp => by
        rcases List.mem_append.mp hp with hp | hp
        · exact hl p hp
        · rcases List.mem_append.mp hp with hp | hp
          · have := sp2.2.2 p hp (a, k') (List.mem_cons_self ..)
            simp only at this; omega
          · rw [List.mem_singleton.mp hp]; show k' < k; omega
      unfold wJ21_put_2_104
      refine ⟨fun er => ?_, fun b eb => ?_⟩
      · subst er
        have e2 : L2 = [] := tT.none ⟨n, t2⟩
        subst e2
        unfold wJ21_put_2_201 wJ21_put_2_216 wJ21_addEntry
        refine b_t (by decide) ⟨a, rfl, _, _, _, _, _, _, _, _, _, hm, 1, 6, hMC, hMS, by omega, by omega, fun e he N5 e5 => c_mk26 e5 (fun N9 e9 => b_t rfl ⟨_, _, _, _, _, _, at_ne e9 (fun c => by rw [c, he] at ha; cases ha) ha, fun N18 e18 => ?_⟩)⟩
        rw [e9] at e18
        refine t_lnk hC hT hc he e18 (fun f1 f2 f3 => ?_) (A := LL ++ (L1 ++ [(a, k')])) (B := RR) (by rw [eW]; rfl) hA hr ik bk h
        refine ⟨a, ko', vo', k', c, l, _, q, LL, RR, L1, rfl, f2, ik'.k f3, bk', hC.fr _ _ _ _ _ (fun z hz => f1 z ?_ ?_) (f1 m ?_ ?_) f3, hck, Or.inr ⟨rfl, rfl, rfl, tT.fr ⟨n, t1⟩ (fun z hz => f1 z ?_ ?_) f3⟩⟩
        · intro c
          obtain ⟨rt, s, md, -, ⟨nn, hW⟩, -⟩ := hC.plug _ _ _ _ _ _ hT
          obtain ⟨u, hu⟩ := hW.ex _ _ _ _ z (by
            rw [ad_app, ad_app]
            rcases List.mem_append.mp hz with hz | hz
            · exact List.mem_append_left _ hz
            · exact List.mem_append_right _ (List.mem_append_right _ hz))
          rw [c, he] at hu; cases hu
        · intro c
          have := hc a
          rw [ad_app, ad_app, List.count_append, List.count_append] at this
          have h1 := cntP hT.mem
          have h2 := cntP hz
          rw [List.count_append, c] at h2
          omega
        · intro c; rw [← c, hm] at he; cases he
        · intro c; rw [← c, hm] at ha; cases ha
        · intro c
          obtain ⟨u, hu⟩ := t1.ex _ _ _ _ z hz
          rw [c, he] at hu; cases hu
        · intro c
          have := hc a
          rw [ad_app, ad_app, List.count_append, List.count_append, ad_cnt] at this
          have h2 := cntP hz
          have := on1_s a
          rw [c] at h2
          omega
      · subst eb
        rw [eW] at hc hs h
        refine ih (d + 1) b (some a) (LL ++ (L1 ++ [(a, k')])) RR L2 t2 ⟨a, ko', vo', k', c, l, _, q, LL, RR, L1, rfl, ha, ik', bk', hC, hck, Or.inr ⟨rfl, rfl, rfl, ⟨n, t1⟩⟩⟩ (fun c => by omega) hc hs hA hr (fun p hp => hn p (List.mem_append_right _ (List.mem_cons_of_mem _ hp))) h
    · have eW : LL ++ ((L1 ++ (a, k') :: L2) ++ RR) = LL ++ (L1 ++ ((a, k') :: (L2 ++ RR))) := by simp only [List.append_assoc, List.cons_append]
      have hB : ∀ p ∈ (a, k') :: (L2 ++ RR), k < p.2 := fun p hp => by
        rcases List.mem_cons.mp hp with hp | hp
        · rw [hp]; show k < k'; omega
        · rcases List.mem_append.mp hp with hp | hp
          · have := sp3.1 p hp
            simp only at this; omega
          · exact hr p hp
      unfold wJ21_put_2_104
      refine ⟨fun er => ?_, fun b eb => ?_⟩
      · subst er
        have e2 : L1 = [] := tT.none ⟨n, t1⟩
        subst e2
        unfold wJ21_put_2_201 wJ21_put_2_216 wJ21_addEntry
        refine b_f (by decide) ⟨a, rfl, _, _, _, _, _, _, _, _, _, hm, 1, 6, hMC, hMS, by omega, by omega, fun e he N5 e5 => c_mk26 e5 (fun N9 e9 => b_f (by decide) ⟨_, _, _, _, _, _, at_ne e9 (fun c => by rw [c, he] at ha; cases ha) ha, fun N18 e18 => ?_⟩)⟩
        rw [e9] at e18
        refine t_lnk hC hT hc he e18 (fun f1 f2 f3 => ?_) (A := LL) (B := (a, k') :: (L2 ++ RR)) (by rw [eW]; rfl) hl hB ik bk h
        refine ⟨a, ko', vo', k', c, _, r, q, LL, RR, L2, rfl, f2, ik'.k f3, bk', hC.fr _ _ _ _ _ (fun z hz => f1 z ?_ ?_) (f1 m ?_ ?_) f3, hck, Or.inl ⟨rfl, rfl, rfl, tT.fr ⟨n, t2⟩ (fun z hz => f1 z ?_ ?_) f3⟩⟩
        · intro c
          obtain ⟨rt, s, md, -, ⟨nn, hW⟩, -⟩ := hC.plug _ _ _ _ _ _ hT
          obtain ⟨u, hu⟩ := hW.ex _ _ _ _ z (by
            rw [ad_app, ad_app]
            rcases List.mem_append.mp hz with hz | hz
            · exact List.mem_append_left _ hz
            · exact List.mem_append_right _ (List.mem_append_right _ hz))
          rw [c, he] at hu; cases hu
        · intro c
          have := hc a
          rw [ad_app, ad_app, List.count_append, List.count_append] at this
          have h1 := cntP hT.mem
          have h2 := cntP hz
          rw [List.count_append, c] at h2
          omega
        · intro c; rw [← c, hm] at he; cases he
        · intro c; rw [← c, hm] at ha; cases ha
        · intro c
          obtain ⟨u, hu⟩ := t2.ex _ _ _ _ z hz
          rw [c, he] at hu; cases hu
        · intro c
          have := hc a
          rw [ad_app, ad_app, List.count_append, List.count_append, ad_cnt] at this
          have h2 := cntP hz
          have := on1_s a
          rw [c] at h2
          omega
      · subst eb
        rw [eW] at hc hs h
        exact ih (d + 1) b (some a) LL ((a, k') :: (L2 ++ RR)) L1 t1 ⟨a, ko', vo', k', c, _, r, q, LL, RR, L2, rfl, ha, ik', bk', hC, hck, Or.inl ⟨rfl, rfl, rfl, ⟨n, t2⟩⟩⟩ (fun c => by omega) hc hs hl hB (fun p hp => hn p (List.mem_append_left _ hp)) h
end
