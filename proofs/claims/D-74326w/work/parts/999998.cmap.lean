set_option maxRecDepth 100000
set_option maxHeartbeats 4000000
/-! the map of told numbers, as a whole -/
def tK : NE → Bool
  | .inr (19, _) => false
  | .inr (20, _) => false
  | _ => true
def tM (K : Nat → Nat → Nat) (N0 N : NM) (m cmp : Nat) (W : List (Nat × Int)) : Prop := ∃ rt s md, N m = some (oMp cmp rt s md) ∧ tT K N rt none W ∧ (∀ g, rt = some g → ∃ ko vo l r, N g = some (nOd ko vo l r none true)) ∧ (∀ z, on1 m z + (ad W).count z ≤ 1) ∧ N cmp = some (eO 13 []) ∧ W.Pairwise (fun p q => p.2 < q.2) ∧ N0 m = none ∧ (∀ z ∈ ad W, N0 z = none)
section
variable {K : Nat → Nat → Nat} {a : Nat → Nat}
theorem tS.cell {N : NM} : ∀ (n : Nat) (h q : Option Nat) (L : List (Nat × Int)), tS K N n h q L → ∀ z ∈ ad L, ∃ fs, N z = some (eO 20 fs)
  | 0, h, q, L, hS, z, hz => by rw [hS.2] at hz; cases hz
  | n + 1, h, q, L, hS, z, hz => by
    rcases hS with e | ⟨a, ko, vo, k, c, l, r, L1, L2, e1, e2, e3, e4, e5, e6, e7⟩
    · rw [e.2] at hz; cases hz
    · rw [e5, ad_app, ad_cons] at hz
      rcases List.mem_append.mp hz with h | h
      · exact tS.cell n _ _ _ e6 z h
      · rcases List.mem_cons.mp h with h | h
        · exact ⟨_, by rw [h]; exact e2⟩
        · exact tS.cell n _ _ _ e7 z h
theorem tM.kx {N0 N N' : NM} {m cmp x p : Nat} {b d : Int32} {W : List (Nat × Int)} (h : tM K N0 N m cmp W) (hx : N x = some (rdr a p b d)) (hk : kx x N N') : tM K N0 N' m cmp W := by
  obtain ⟨rt, s, md, h1, ⟨n, h2⟩, h3, h4, h5, h6, h7, h8⟩ := h
  refine ⟨rt, s, md, hk _ _ h1 (fun c => by rw [c, hx] at h1; cases h1), ⟨n, h2.fr _ _ _ _ (fun z hz => ?_) (fun z v hz => hk _ _ hz (fun c => by rw [c, hx] at hz; cases hz))⟩, fun g hg => ?_, h4, hk _ _ h5 (fun c => by rw [c, hx] at h5; cases h5), h6, h7, h8⟩
  · obtain ⟨fs, hf⟩ := h2.cell _ _ _ _ z hz
    rw [hf]
    exact hk _ _ hf (fun c => by rw [c, hx] at hf; cases hf)
  · obtain ⟨ko, vo, l, r, e⟩ := h3 g hg
    exact ⟨ko, vo, l, r, hk _ _ e (fun c => by rw [c, hx] at e; cases e)⟩
theorem tM.obj {N0 N : NM} {m cmp : Nat} {W : List (Nat × Int)} (h : tM K N0 N m cmp W) : ∃ rt s md, N m = some (oMp cmp rt s md) := by
  obtain ⟨rt, s, md, h1, -⟩ := h
  exact ⟨rt, s, md, h1⟩
theorem c_box {post : Nat → NM → Prop} {N : NM} {v : Int} {MC MS : Nat} (hv : -3000 ≤ v ∧ v ≤ 3000) (hMC : 1 ≤ MC) (hMS : 1 ≤ MS) (h : ∀ N' r, nw N N' → iAt K N' r (iI v) → post r N') : wJ23_valueOf K post MC MS N (iI v) := by
  have mk : wJ23_valueOf_23 K post (iI v) MC MS N := by
    unfold wJ23_valueOf_23 wJ23_init wJ22_init
    refine ⟨hMC, hMS, fun q hq N6 e6 => ⟨_, at_up e6, fun N5 e5 => h N5 q ?_ (Or.inr (at_up e5))⟩⟩
    rw [e5, e6, up_up]
    exact (nw.refl N).new hq _
  unfold wJ23_valueOf
  rw [show (-128 : Int32) = iI (-128) from rfl, show (127 : Int32) = iI 127 from rfl, show (128 : Int32) = iI 128 from rfl, iI_lt (by omega) (by omega) (by omega) (by omega), iI_lt (by omega) (by omega) (by omega) (by omega), iI_add]
  refine ⟨fun _ => mk, fun c1 => ⟨fun _ => mk, fun c2 => ?_⟩⟩
  obtain ⟨k, ek⟩ : ∃ k : Nat, v + 128 = (k : Nat) := ⟨(v + 128).toNat, by omega⟩
  rw [ek, nat_i (by omega)]
  refine ⟨iI_in (by omega) (by omega) (by omega), h N _ (nw.refl N) (Or.inl ⟨k, by omega, rfl, ?_⟩)⟩
  unfold vb_c
  rw [show Int32.ofNat k = nI k from rfl, nI_i, show (128 : Int32) = iI 128 from rfl, iI_sub, show (k : Int) - 128 = v by omega]
theorem t_get17 {post : Option Nat → NM → Prop} {N : NM} {cmp ko : Nat} {k : Int} (hcmp : N cmp = some (eO 13 [])) (ik : iAt K N ko (iI (-k))) (bk : -3000 ≤ k ∧ k ≤ 3000) : ∀ (n : Nat) (h q : Option Nat) (L : List (Nat × Int)), tS K N n h q L → L.Pairwise (fun p q => p.2 < q.2) → (k ∈ L.map Prod.snd → ∀ x, post (some x) N) → (k ∉ L.map Prod.snd → post none N) → wJ21_getEntryUsingComparator_17 K post (n + 1) ko (some cmp) h N := by
  intro n
  induction n with
  | zero =>
    intro h q L hS hs h1 h0
    unfold wJ21_getEntryUsingComparator_17
    rw [hS.1]
    refine ⟨fun _ => h0 (by rw [hS.2]; exact fun c => (by cases c)), fun a15 e => (by cases e)⟩
  | succ n ih =>
    intro h q L hS hs h1 h0
    unfold wJ21_getEntryUsingComparator_17
    rcases hS with e | ⟨a, ko', vo', k', c, l, r, L1, L2, e1, ha, ik', bk', eL, t1, t2⟩
    · rw [e.1]
      refine ⟨fun _ => h0 (by rw [e.2]; exact fun c => (by cases c)), fun a15 e => (by cases e)⟩
    · subst e1 eL
      have sp := List.pairwise_append.mp hs
      have sp3 := List.pairwise_cons.mp sp.2.1
      have key : ∀ j, j ∈ (L1 ++ (a, k') :: L2).map Prod.snd ↔ j ∈ L1.map Prod.snd ∨ j = k' ∨ j ∈ L2.map Prod.snd := fun j => by
        rw [List.map_append, List.mem_append, List.map_cons, List.mem_cons]
      have gt1 : ∀ j ∈ L1.map Prod.snd, j < k' := fun j hj => by
        obtain ⟨p, hp, rfl⟩ := List.mem_map.mp hj
        exact sp.2.2 p hp (a, k') (List.mem_cons_self ..)
      have gt2 : ∀ j ∈ L2.map Prod.snd, k' < j := fun j hj => by
        obtain ⟨p, hp, rfl⟩ := List.mem_map.mp hj
        exact sp3.1 p hp
      refine ⟨fun e => (by cases e), fun a15 e => ?_⟩
      cases e
      refine ⟨_, _, _, _, _, _, ha, cmp, rfl, ko', rfl, hcmp, c_cmpF ik ik' (by omega) (by omega) hcmp (fun lt => b_t (by decide) (b_f (by decide) ⟨_, _, _, _, _, _, ha, ?_⟩)) (fun gt => b_f (by decide) ⟨_, _, _, _, _, _, ha, ?_⟩) (fun eq => b_t (by decide) (b_t (by decide) (h1 ((key k).2 (Or.inr (Or.inl (by omega)))) a)))⟩
      · exact ih r (some a) L2 t2 sp3.2 (fun hk => h1 ((key k).2 (Or.inr (Or.inr hk)))) (fun hk => h0 (fun c => by
          rcases (key k).1 c with c | c | c
          · have := gt1 k c; omega
          · omega
          · exact hk c))
      · exact ih l (some a) L1 t1 sp.1 (fun hk => h1 ((key k).2 (Or.inl hk))) (fun hk => h0 (fun c => by
          rcases (key k).1 c with c | c | c
          · exact hk c
          · omega
          · have := gt2 k c; omega))
/-- is a number told? -/
theorem c_has {post : Int32 → NM → Prop} {N0 N : NM} {m cmp ko : Nat} {k : Int} {W : List (Nat × Int)} (hM : tM K N0 N m cmp W) (ik : iAt K N ko (iI (-k))) (bk : -3000 ≤ k ∧ k ≤ 3000) (h1 : k ∈ W.map Prod.snd → post 1 N) (h0 : k ∉ W.map Prod.snd → post 0 N) : wJ21_containsKey K post N m ko := by
  obtain ⟨rt, s, md, hm, ⟨n, hT⟩, -, -, hcmp, hs, -⟩ := hM
  unfold wJ21_containsKey wJ21_getEntry wJ21_getEntryUsingComparator
  refine ⟨_, _, _, _, _, _, _, _, _, hm, _, _, _, _, _, _, _, _, _, hm, fun e => (by cases e), fun a12 e => ?_⟩
  refine ⟨_, _, _, _, _, _, _, _, _, hm, fun e => (by cases e), fun a13 e => ⟨n + 1, ?_⟩⟩
  exact t_get17 hcmp ik bk n _ _ _ hT hs (fun hk x => ⟨fun e => (by cases e), fun _ _ => h1 hk⟩) (fun hk => ⟨fun _ => h0 hk, fun _ e => (by cases e)⟩)
/-- a number is told -/
theorem c_mapPut {post : Option Nat → NM → Prop} {N0 N : NM} {m cmp ko MC MS : Nat} {vo : Option Nat} {k : Int} {W : List (Nat × Int)} (hM : tM K N0 N m cmp W) (hd : dm N0 N) (ik : iAt K N ko (iI (-k))) (bk : -3000 ≤ k ∧ k ≤ 3000) (hn : k ∉ W.map Prod.snd) (hMC : 1 ≤ MC) (hMS : 6 ≤ MS)
    (h : ∀ (N' : NM) W', tM K N0 N' m cmp W' → (∀ j, j ∈ W'.map Prod.snd ↔ j = k ∨ j ∈ W.map Prod.snd) → (∀ z u, N z = some u → (N0 z ≠ none ∨ tK u = true) → N' z = some u) → post none N') : wJ21_put K post MC MS N m ko vo := by
  obtain ⟨rt, s, md, hm, ⟨n, hT⟩, hbk, hc, hcmp, hs, m0, w0⟩ := hM
  have hcm : cmp ≠ m := fun e => by rw [e, hm] at hcmp; cases hcmp
  have keep : ∀ (N' : NM) e, N e = none → (∀ z, z ≠ e → on1 m z + (ad W).count z = 0 → N' z = N z) → ∀ z u, N z = some u → (N0 z ≠ none ∨ tK u = true) → N' z = some u := fun N' e he hf z u hz q => by
    have ze : z ≠ e := fun c => by rw [c, he] at hz; cases hz
    have zm : z ≠ m := fun c => by
      rw [c] at q hz
      rcases q with q | q
      · exact q m0
      · rw [hm] at hz; cases hz; cases q
    have zw : z ∉ ad W := fun c => by
      rcases q with q | q
      · exact q (w0 z c)
      · obtain ⟨fs, hf⟩ := hT.cell _ _ _ _ z c
        rw [hf] at hz; cases hz; cases q
    rw [hf z ze (by rw [on1_0 zm, cnt0 zw])]
    exact hz
  unfold wJ21_put
  refine ⟨_, _, _, _, _, _, _, _, _, hm, 1, 6, hMC, hMS, ?_⟩
  unfold wJ21_put_2
  refine ⟨_, _, _, _, _, _, _, _, _, hm, fun er => ?_, fun g eg => ⟨fun e => (by cases e), fun a21 e => ⟨n, ?_⟩⟩⟩
  · subst er
    have eW : W = [] := tT.none ⟨n, hT⟩
    subst eW
    refine ⟨1, 6, by omega, by omega, ?_⟩
    unfold wJ21_addEntryToEmptyMap wJ21_compare
    refine ⟨_, _, _, _, _, _, _, _, _, hm, _, _, _, _, _, _, _, _, _, hm, fun e => (by cases e), fun a12 e => ?_⟩
    cases e
    have rest : 1 ≤ 1 ∧ 6 ≤ 6 ∧ (∀ nq15, N nq15 = none → (∀ N17, N17 = va_up N nq15 (some (eO 20 [va_rf none, va_rf none, va_rf none, va_rf none, va_rf none, .int (0 : Int32)])) → (wJ26_init K (fun _ N21 => ∃ f23 f24 f25 f26 f27 f28 f29 f30 f31, N21 m = some (eO 19 [va_rf f23, va_rf f24, va_rf f25, va_rf f26, .int f27, .int f28, va_rf f29, va_rf f30, va_rf f31]) ∧ (∀ N32, N32 = va_up N21 m (some (eO 19 [va_rf f23, va_rf f24, va_rf f25, va_rf (some nq15), .int f27, .int f28, va_rf f29, va_rf f30, va_rf f31])) → (∀ N35, N35 = va_up N32 m (some (eO 19 [va_rf f23, va_rf f24, va_rf f25, va_rf (some nq15), .int (1 : Int32), .int f28, va_rf f29, va_rf f30, va_rf f31])) → (∀ N38, N38 = va_up N35 m (some (eO 19 [va_rf f23, va_rf f24, va_rf f25, va_rf (some nq15), .int (1 : Int32), .int (f28 + (1 : Int32)), va_rf f29, va_rf f30, va_rf f31])) → (post none N38))))) N17 nq15 (some ko) vo none))) := by
      refine ⟨by omega, by omega, fun e he N17 e17 => c_mk26 e17 (fun N21 e21 => ?_)⟩
      have me : m ≠ e := fun c => by rw [← c, hm] at he; cases he
      refine ⟨_, _, _, _, _, _, _, _, _, at_ne e21 me hm, fun N32 e32 N35 e35 N38 e38 => ?_⟩
      rw [e32, up_up] at e35
      rw [e35, up_up] at e38
      have k38 : k22 N N38 := by
        rw [e38]
        exact k22.up (by rw [e21]; exact (k22.rf N).new he) (at_ne e21 me hm) (by decide)
      have g38 : N38 e = some (nOd ko vo none none none true) := at_ne e38 (Ne.symm me) (at_up e21)
      refine h N38 [(e, k)] ⟨some e, _, _, at_up e38, tT.mk (L1 := []) g38 (ik.k k38) bk tT.nil tT.nil, fun g eg => ?_, fun z => ?_, at_ne e38 hcm (at_ne e21 (fun c => by rw [c, he] at hcmp; cases hcmp) hcmp), List.pairwise_singleton _ _, m0, fun z hz => ?_⟩ (fun j => ?_) (keep N38 e he (fun z z1 z2 => ?_))
      · cases eg; exact ⟨_, _, _, _, g38⟩
      · rw [ad_cons, show (e, k).fst = e from rfl, cnt_cons]
        show on1 m z + (on1 e z + 0) ≤ 1
        by_cases c : z = e
        · rw [c, on1_0 (Ne.symm me), on1_s]; omega
        · rw [on1_0 c]; have := hc z; omega
      · rw [List.mem_singleton.mp hz]; exact hd.no he
      · show j ∈ [k] ↔ _
        rw [List.mem_singleton]
        exact ⟨Or.inl, fun c => c.elim id (fun c => by cases c)⟩
      · rw [e38, up_ne _ _ _ (fun c => by rw [c, on1_s] at z2; omega), e21, up_ne _ _ _ z1]
    refine ⟨hcmp, c_cmpF ik ik (by omega) (by omega) hcmp (fun c => by omega) (fun c => by omega) (fun _ => rest)⟩
  · cases e
    subst eg
    have hC : tC K N m cmp 0 (some g) none [] [] := ⟨rfl, rfl, rfl, s, md, hm⟩
    refine t_put30 hcmp ik bk (by omega) (by omega) n 0 g none [] [] W hT hC (fun _ ko vo l r q c hg => ?_) (by rw [List.nil_append, List.append_nil]; exact hc) (by rw [List.nil_append, List.append_nil]; exact hs) (fun p hp => by cases hp) (fun p hp => by cases hp) (fun p hp c => hn (by rw [← c]; exact List.mem_map_of_mem hp)) ?_
    · obtain ⟨ko', vo', l', r', e⟩ := hbk g rfl
      rw [hg] at e
      have e := (Prod.mk.inj (Sum.inr.inj (Option.some.inj e))).2
      simp only [List.cons.injEq, Value.int.injEq, and_true] at e
      cases c with
      | true => rfl
      | false => exact absurd e.2.2.2.2.2 (by decide)
    · rw [List.nil_append, List.append_nil]
      intro A B e N' g' s' md' eW he h1 h2 h3 hA hB hk hf
      have e0 : (ad W).count e = 0 := cnt0 (fun hz => by
        obtain ⟨u, hu⟩ := hT.ex _ _ _ _ e hz
        rw [he] at hu; cases hu)
      have em : e ≠ m := fun c => by rw [c, hm] at he; cases he
      have ct : ∀ z, (ad (A ++ (e, k) :: B)).count z = on1 e z + (ad W).count z := fun z => by
        rw [ad_cnt, eW, ad_app, List.count_append]; omega
      refine h N' (A ++ (e, k) :: B) ⟨some g', s', md', h1, h2, fun g eg => ?_, fun z => ?_, ?_, ?_, m0, fun z hz => ?_⟩ (fun j => ?_) (keep N' e he hf)
      · cases eg; exact h3
      · rw [ct z]
        by_cases c : z = e
        · rw [c, e0, on1_s, on1_0 em]; omega
        · rw [on1_0 c]; have := hc z; omega
      · exact keep N' e he hf cmp _ hcmp (Or.inr rfl)
      · rw [eW] at hs
        have sp := List.pairwise_append.mp hs
        refine List.pairwise_append.mpr ⟨sp.1, List.pairwise_cons.mpr ⟨fun p hp => hB p hp, sp.2.1⟩, fun p hp r hr => ?_⟩
        rcases List.mem_cons.mp hr with hr | hr
        · rw [hr]; exact hA p hp
        · exact sp.2.2 p hp r hr
      · rw [ad_app, ad_cons] at hz
        rw [eW, ad_app] at w0
        rcases List.mem_append.mp hz with hz | hz
        · exact w0 z (List.mem_append_left _ hz)
        · rcases List.mem_cons.mp hz with hz | hz
          · rw [hz]; exact hd.no he
          · exact w0 z (List.mem_append_right _ hz)
      · rw [eW]
        simp only [List.map_append, List.map_cons, List.mem_append, List.mem_cons]
        exact ⟨fun c => by rcases c with c | c | c; exact Or.inr (Or.inl c); exact Or.inl c; exact Or.inr (Or.inr c), fun c => by rcases c with c | c | c; exact Or.inr (Or.inl c); exact Or.inl c; exact Or.inr (Or.inr c)⟩
theorem c_mapNew {post : Unit → NM → Prop} {N : NM} {m cmp : Nat} (hm : N m = some (eO 19 [va_rf none, va_rf none, va_rf none, va_rf none, .int 0, .int 0, va_rf none, va_rf none, va_rf none])) (h : post () (va_up N m (some (oMp cmp none 0 0)))) : wJ21_init K post N m cmp := by
  unfold wJ21_init wJ20_init
  refine ⟨_, _, _, _, _, _, _, _, _, hm, fun N13 e13 N16 e16 N19 e19 => ?_⟩
  rw [e13, up_up] at e16
  rw [e16, up_up] at e19
  rw [e19]
  exact h
end
