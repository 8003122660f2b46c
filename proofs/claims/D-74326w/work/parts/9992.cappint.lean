set_option maxRecDepth 100000
set_option maxHeartbeats 4000000
/-! builders: numbers -/
theorem iI_tdiv {a : Int} (ha : 0 ≤ a ∧ a ≤ 9999) : iI (-a) / 100 = iI (-(a / 100)) := by
  have h := Int32.ofInt_tdiv (a := -a) (b := 100) (by show (-2147483648 : Int) ≤ -a; omega) (by show -a ≤ 2147483647; omega) (by decide) (by decide)
  rw [Int.neg_tdiv, Int.tdiv_eq_ediv_of_nonneg ha.1] at h
  exact h.symm
theorem dgK_d (n : Int) (h : 0 ≤ n ∧ n ≤ 9999) : (n < 10 ∧ dgR n (dgK n) = [48 + n % 10]) ∨ (10 ≤ n ∧ n < 100 ∧ dgR n (dgK n) = [48 + n / 10, 48 + n % 10]) ∨ (100 ≤ n ∧ dgR n (dgK n) = dgR (n / 100) (dgK (n / 100)) ++ [48 + n % 100 / 10, 48 + n % 100 % 10]) := by
  unfold dgK
  by_cases c1 : n < 10
  · exact Or.inl ⟨c1, by rw [if_pos c1]; rfl⟩
  · by_cases c2 : n < 100
    · refine Or.inr (Or.inl ⟨by omega, c2, ?_⟩)
      rw [if_neg c1, if_pos c2]
      show [48 + n / 10 ^ 1 % 10, 48 + n % 10] = _
      rw [show n / 10 ^ 1 % 10 = n / 10 by omega]
    · refine Or.inr (Or.inr ⟨by omega, ?_⟩)
      rw [if_neg c1, if_neg c2]
      by_cases c3 : n < 1000
      · rw [if_pos c3, if_pos (show n / 100 < 10 by omega)]
        show [48 + n / 10 ^ 2 % 10, 48 + n / 10 ^ 1 % 10, 48 + n % 10] = [48 + n / 100 % 10, 48 + n % 100 / 10, 48 + n % 100 % 10]
        rw [show n / 10 ^ 2 % 10 = n / 100 % 10 by omega, show n / 10 ^ 1 % 10 = n % 100 / 10 by omega, show n % 100 % 10 = n % 10 by omega]
      · rw [if_neg c3, if_neg (show ¬ n / 100 < 10 by omega), if_pos (show n / 100 < 100 by omega)]
        show [48 + n / 10 ^ 3 % 10, 48 + n / 10 ^ 2 % 10, 48 + n / 10 ^ 1 % 10, 48 + n % 10] = [48 + n / 100 / 10 ^ 1 % 10, 48 + n / 100 % 10, 48 + n % 100 / 10, 48 + n % 100 % 10]
        rw [show n / 10 ^ 3 % 10 = n / 100 / 10 ^ 1 % 10 by omega, show n / 10 ^ 2 % 10 = n / 100 % 10 by omega, show n / 10 ^ 1 % 10 = n % 100 / 10 by omega, show n % 100 % 10 = n % 10 by omega]
section
variable {K : Nat → Nat → Nat}
theorem dg_c {c : Nat} (h : c < 10) : vp_nar .byte (nI (48 + c)) = iI (48 + (c : Int)) := by
  rw [nI_i, show ((48 + c : Nat) : Int) = 48 + (c : Int) by omega]; exact nar8 (by omega)
/-- the sign, and all is written -/
theorem c_gc_104 {post : Int32 → NM → Prop} {N : NM} {y cap q : Nat} {f : Nat → Int32} {X : List Int} {sg : Int} (hsg : sg = 0 ∨ sg = 1) (hq : q + X.length ≤ cap) (hc : cap ≤ 2302) (hq1 : sg = 1 → 1 ≤ q) (h : ∀ p r, p + sg.toNat = q → post r (va_up N y (some (eN 3 cap (putL f p ((if sg = 1 then [45] else []) ++ X)))))) : wJ23_getChars_104 K post y (iI (q : Nat)) (iI sg) (va_up N y (some (eN 3 cap (putL f q X)))) := by
  unfold wJ23_getChars_104
  rcases hsg with e | e
  · subst e
    have := h q (iI (q : Nat)) rfl
    rw [if_neg (by decide), List.nil_append] at this
    exact b_t rfl this
  · subst e
    refine b_f (by decide) ⟨_, _, up_eq _ _ _, ?_⟩
    obtain ⟨p, rfl⟩ : ∃ p, q = p + 1 := ⟨q - 1, by have := hq1 rfl; omega⟩
    rw [iI_pred, show ((p + 1 : Nat) : Int) - 1 = (p : Int) by omega, nat_i (by omega), show (45 : Int32) = iI 45 from rfl, nar8 (by omega), putL_cons]
    refine ⟨iI_in (by omega) (by omega) (by omega), fun N15 e15 => ?_⟩
    rw [up_up] at e15
    subst e15
    have := h p (iI (p : Nat)) rfl
    rw [if_pos rfl] at this
    exact this
theorem c_gc_s {post : Int32 → NM → Prop} {N : NM} {y cap m q : Nat} {f : Nat → Int32} {sg n : Int} {X : List Int} (hsg : sg = 0 ∨ sg = 1) (hc : cap ≤ 2302) (n0 : 0 ≤ n) (n9 : n ≤ 99) (hq : q + X.length ≤ cap) (hl : (dgR n (dgK n)).length + sg.toNat ≤ q) (h : ∀ p r, p + sg.toNat + (dgR n (dgK n)).length = q → post r (va_up N y (some (eN 3 cap (putL f p ((if sg = 1 then [45] else []) ++ (dgR n (dgK n) ++ X))))))) : wJ23_getChars_22 K post (m + 1) (iI (-n)) y (iI (q : Nat)) (iI sg) (va_up N y (some (eN 3 cap (putL f q X)))) := by
  unfold wJ23_getChars_22
  rw [iI_neg, Int.neg_neg, show (-100 : Int32) = iI (-100) from rfl, show (-9 : Int32) = iI (-9) from rfl, iI_lt (by omega) (by omega) (by omega) (by omega), iI_le (by omega) (by omega) (by omega) (by omega), iI_nat (by omega) (by omega)]
  refine b_t (by omega) ⟨iI_in (by omega) (by omega) (by omega), _, _, up_eq _ _ _, ?_⟩
  rcases dgK_d n ⟨n0, by omega⟩ with ⟨c1, e⟩ | ⟨c1, c2, e⟩ | ⟨c1, -⟩
  · rw [e] at hl h
    simp only [List.length_cons, List.length_nil] at hl h
    obtain ⟨p, rfl⟩ : ∃ p, q = p + 1 := ⟨q - 1, by omega⟩
    rw [iI_pred, show ((p + 1 : Nat) : Int) - 1 = (p : Int) by omega, nat_i (by omega), dg_c (by omega), show (48 : Int) + ((n.toNat % 10 : Nat) : Int) = 48 + n % 10 by omega, putL_cons]
    refine ⟨iI_in (by omega) (by omega) (by omega), fun N7 e7 => b_t (by omega) ?_⟩
    rw [up_up] at e7
    subst e7
    exact c_gc_104 hsg (by simp only [List.length_cons]; omega) hc (fun e => by omega) (fun p' r hp => h p' r (by omega))
  · rw [e] at hl h
    simp only [List.length_cons, List.length_nil] at hl h
    obtain ⟨p, rfl⟩ : ∃ p, q = p + 1 + 1 := ⟨q - 2, by omega⟩
    rw [iI_pred, show ((p + 1 + 1 : Nat) : Int) - 1 = ((p + 1 : Nat) : Int) by omega, nat_i (by omega), dg_c (by omega), show (48 : Int) + ((n.toNat % 10 : Nat) : Int) = 48 + n % 10 by omega, putL_cons]
    refine ⟨iI_in (by omega) (by omega) (by omega), fun N7 e7 => b_f (by omega) ⟨iI_in (by omega) (by omega) (by omega), ?_⟩⟩
    rw [up_up] at e7
    subst e7
    rw [iI_pred, show ((p + 1 : Nat) : Int) - 1 = (p : Int) by omega, nat_i (by omega), dg_c (by omega), show (48 : Int) + ((n.toNat / 10 : Nat) : Int) = 48 + n / 10 by omega, putL_cons]
    refine ⟨iI_in (by omega) (by omega) (by omega), fun N18 e18 => ?_⟩
    rw [up_up] at e18
    subst e18
    exact c_gc_104 hsg (by simp only [List.length_cons]; omega) hc (fun e => by omega) (fun p' r hp => h p' r (by omega))
  · omega
theorem c_gc_b {post : Int32 → NM → Prop} {N : NM} {y cap m q : Nat} {f : Nat → Int32} {sg n : Int} {X : List Int} (hsg : sg = 0 ∨ sg = 1) (hc : cap ≤ 2302) (n0 : 0 ≤ n) (n9 : n ≤ 9999) (hq : q + X.length ≤ cap) (hl : (dgR n (dgK n)).length + sg.toNat ≤ q) (h : ∀ p r, p + sg.toNat + (dgR n (dgK n)).length = q → post r (va_up N y (some (eN 3 cap (putL f p ((if sg = 1 then [45] else []) ++ (dgR n (dgK n) ++ X))))))) : wJ23_getChars_22 K post (m + 1 + 1) (iI (-n)) y (iI (q : Nat)) (iI sg) (va_up N y (some (eN 3 cap (putL f q X)))) := by
  rcases dgK_d n ⟨n0, by omega⟩ with ⟨c1, e⟩ | ⟨c1, c2, e⟩ | ⟨c1, e⟩
  · exact c_gc_s hsg hc n0 (by omega) hq hl h
  · exact c_gc_s hsg hc n0 (by omega) hq hl h
  · unfold wJ23_getChars_22
    rw [iI_tdiv ⟨n0, n9⟩, show (100 : Int32) = iI 100 from rfl, iI_mul, iI_sub, show -(n / 100) * 100 - -n = n % 100 by omega, show -iI 100 = iI (-100) from rfl, iI_lt (by omega) (by omega) (by omega) (by omega), iI_nat (z := n % 100) (by omega) (by omega)]
    rw [e] at hl h
    simp only [List.length_append, List.length_cons, List.length_nil] at hl h
    obtain ⟨p, rfl⟩ : ∃ p, q = p + 1 + 1 := ⟨q - 2, by omega⟩
    refine b_f (by omega) ⟨iI_in (by omega) (by omega) (by omega), _, _, up_eq _ _ _, ?_⟩
    rw [iI_pred, show ((p + 1 + 1 : Nat) : Int) - 1 = ((p + 1 : Nat) : Int) by omega, nat_i (by omega), dg_c (by omega), show (48 : Int) + (((n % 100).toNat % 10 : Nat) : Int) = 48 + n % 100 % 10 by omega, putL_cons]
    refine ⟨iI_in (by omega) (by omega) (by omega), fun N24 e24 => ⟨iI_in (by omega) (by omega) (by omega), ?_⟩⟩
    rw [up_up] at e24
    subst e24
    rw [iI_pred, show ((p + 1 : Nat) : Int) - 1 = (p : Int) by omega, nat_i (by omega), dg_c (by omega), show (48 : Int) + (((n % 100).toNat / 10 : Nat) : Int) = 48 + n % 100 / 10 by omega, putL_cons]
    refine ⟨iI_in (by omega) (by omega) (by omega), fun N27 e27 => ?_⟩
    rw [up_up] at e27
    subst e27
    refine c_gc_s hsg hc (by omega) (by omega) (by simp only [List.length_cons]; omega) (by omega) (fun p' r hp => ?_)
    have := h p' r (by omega)
    rw [List.append_assoc] at this
    exact this
/-- Integer.getChars -/
theorem c_getChars {post : Int32 → NM → Prop} {N : NM} {y cap p : Nat} {f : Nat → Int32} {v : Int} (hv : -9999 ≤ v ∧ v ≤ 9999) (hy : N y = some (eN 3 cap f)) (hc : cap ≤ 2302) (hp : p + (numS v).length ≤ cap) (h : ∀ r, post r (va_up N y (some (eN 3 cap (putL f p (numS v)))))) : wJ23_getChars K post N (iI v) (iI ((p + (numS v).length : Nat) : Int)) y := by
  have e0 : N = va_up N y (some (eN 3 cap (putL f (p + (numS v).length) []))) := by rw [putL_nil, up_self hy]
  unfold wJ23_getChars
  rw [show (0 : Int32) = iI 0 from rfl, iI_le (by omega) (by omega) (by omega) (by omega)]
  refine ⟨fun c => ?_, fun c => ?_⟩
  · have en : numS v = dgR v (dgK v) := by unfold numS; rw [if_neg (by omega)]
    unfold wJ23_getChars_12
    refine b_t rfl ⟨2, ?_⟩
    rw [iI_neg, e0]
    refine c_gc_b (sg := 0) (Or.inl rfl) hc (by omega) (by omega) (by simp only [List.length_nil]; omega) (by rw [en]; omega) (fun p' r hp' => ?_)
    rw [← en] at hp' ⊢
    rw [if_neg (by decide), List.nil_append, List.append_nil, show p' = p by omega]
    exact h r
  · have en : numS v = 45 :: dgR (-v) (dgK (-v)) := by unfold numS; rw [if_pos (by omega)]
    have el : (numS v).length = (dgR (-v) (dgK (-v))).length + 1 := by rw [en]; rfl
    unfold wJ23_getChars_12
    refine b_f (by decide) ⟨2, ?_⟩
    rw [e0, show iI v = iI (-(-v)) by rw [Int.neg_neg]]
    refine c_gc_b (sg := 1) (Or.inr rfl) hc (by omega) (by omega) (by simp only [List.length_nil]; omega) (by rw [el]; omega) (fun p' r hp' => ?_)
    rw [if_pos rfl, List.append_nil, show p' = p by omega]
    have := h r
    rw [en] at this
    exact this
theorem c_strSize {post : Int32 → Prop} {v : Int} (hv : -9999 ≤ v ∧ v ≤ 9999) (h : post (iI ((numS v).length : Nat))) : wJ23_stringSize post (iI v) := by
  have go : ∀ n d : Int, 0 ≤ n → n ≤ 9999 → post (iI ((dgK n : Nat) + 1 + d)) → wJ23_stringSize_11 post (iI (-n)) (iI d) := by
    intro n d n0 n9 hp
    unfold wJ23_stringSize_11
    refine ⟨5, ?_⟩
    unfold dgK at hp
    simp only [wJ23_stringSize_16]
    simp (disch := omega) only [iLit, lLit, iI_add, iI_sub, iI_mul, iI_neg, lI_add, lI_sub, lI_mul, lI_neg, nI_i, lI_i, iI_l, iI_nat, iI_lt, iI_le, iI_eq, lI_lt, lI_le, lI_eq]
    refine ⟨fun e => by omega, fun _ => ⟨fun c1 => ⟨fun e => by omega, fun _ => ⟨fun c2 => ⟨fun e => by omega, fun _ => ⟨fun c3 => ⟨fun e => by omega, fun _ => ⟨fun c4 => by omega, fun c4 => ?_⟩⟩, fun c3 => ?_⟩⟩, fun c2 => ?_⟩⟩, fun c1 => ?_⟩⟩
    · rw [if_neg (by omega), if_neg (by omega), if_neg (by omega)] at hp; exact hp
    · rw [if_neg (by omega), if_neg (by omega), if_pos (by omega)] at hp; exact hp
    · rw [if_neg (by omega), if_pos (by omega)] at hp; exact hp
    · rw [if_pos (by omega)] at hp; exact hp
  unfold wJ23_stringSize
  rw [show (0 : Int32) = iI 0 from rfl, iI_lt (by omega) (by omega) (by omega) (by omega), iI_neg]
  unfold numS at h
  refine ⟨fun c => ?_, fun c => ?_⟩
  · rw [if_pos c, List.length_cons, dgR_len] at h
    have := go (-v) 1 (by omega) (by omega) (by rw [show ((dgK (-v) : Nat) : Int) + 1 + 1 = ((dgK (-v) + 1 + 1 : Nat) : Int) by omega]; exact h)
    rw [Int.neg_neg] at this
    exact this
  · rw [if_neg c, dgR_len] at h
    exact go v 0 (by omega) (by omega) (by rw [show ((dgK v : Nat) : Int) + 1 + 0 = ((dgK v + 1 : Nat) : Int) by omega]; exact h)
theorem numS_ch {v : Int} (hv : -9999 ≤ v ∧ v ≤ 9999) : ∀ c ∈ numS v, 0 ≤ c ∧ c ≤ 127 := by
  have hd : ∀ (n : Int) (k : Nat), 0 ≤ n → ∀ c ∈ dgR n k, 0 ≤ c ∧ c ≤ 127 := fun n k hn => by
    induction k with
    | zero => intro c hc; rw [show dgR n 0 = [48 + n % 10] from rfl, List.mem_singleton] at hc; omega
    | succ k ih =>
      intro c hc
      rw [show dgR n (k + 1) = (48 + n / 10 ^ (k + 1) % 10) :: dgR n k from rfl, List.mem_cons] at hc
      rcases hc with hc | hc
      · rw [hc]; omega
      · exact ih c hc
  intro c hc
  unfold numS at hc
  split at hc
  · rcases List.mem_cons.mp hc with e | e
    · omega
    · exact hd _ _ (by omega) c e
  · exact hd _ _ (by omega) c hc
/-- append(int) -/
theorem c_appI {N0 N : NM} {x bc bs : Nat} {L : List Int} {v : Int} (hB : sBd N0 N x L bc bs) (hv : -9999 ≤ v ∧ v ≤ 9999) (hl : L.length + 5 ≤ 2302) : ∃ uc us bc' bs', uc + bc' ≤ bc ∧ us + bs' ≤ bs ∧ ∀ (MC MS : Nat), uc ≤ MC → us ≤ MS → ∀ post : Nat → NM → Prop, (∀ N', sBd N0 N' x (L ++ numS v) bc' bs' → fb N0 N x N' → post x N') → wJ11_append_2 K post MC MS N x (iI v) := by
  have hn5 := numS_len v
  obtain ⟨uc, us, bc', bs', u1, u2, hE⟩ := c_ensure (K := K) (k := (numS v).length) hB (by omega) (by omega)
  refine ⟨uc, us, bc', bs', u1, u2, fun MC MS hMC hMS post h => ?_⟩
  obtain ⟨yy, cap0, f0, hh0, x00, y00, -, o1, -⟩ := hB
  have fx : ∀ e, N x = some e → fk e = 0 := fun e he => by rw [o1] at he; cases he; rfl
  unfold wJ11_append_2 wJ10_append_2
  refine ⟨_, _, _, _, o1, MC, MS, Nat.le_refl _, Nat.le_refl _, _, _, _, _, o1, ?_⟩
  refine c_strSize hv ⟨MC, MS, Nat.le_refl _, Nat.le_refl _, ?_⟩
  rw [iI_add]
  refine hE MC MS hMC hMS _ (fun N7 y' hS hf hk => ?_)
  have hS0 := hS
  obtain ⟨cap, f, hh, x0, y0, hd, h1, h2, h3, h4, h5, h6, h7⟩ := hS
  have hxy : x ≠ y' := fun e => by rw [e, h2] at h1; cases h1
  have hcap := h7.in
  refine ⟨_, _, _, _, h1, c_latin hS0 (b_f (by decide) ⟨_, _, _, _, h1, y', rfl, ?_⟩)⟩
  refine c_getChars hv h2 hcap.2 h6 (fun r => ?_)
  unfold wJ10_append_2_48
  refine ⟨_, _, _, _, by rw [up_ne _ _ _ hxy]; exact h1, fun N35 e35 => ?_⟩
  subst e35
  refine h _ (sBy.put x0 y0 ((hd.up y' _).up x _) hxy h3 h4 h5 h6 h7 (numS_ch hv) rfl (up_eq _ _ _) (by rw [up_ne _ _ _ (Ne.symm hxy)]; exact up_eq _ _ _)) ⟨y', x00, y0, fx, hk, fun z e he z1 z2 => ?_⟩
  rw [up_ne _ _ _ z1, up_ne _ _ _ z2]
  exact hf z e he z1 z2
end
