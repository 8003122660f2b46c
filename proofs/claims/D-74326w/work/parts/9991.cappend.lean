set_option maxRecDepth 100000
set_option maxHeartbeats 4000000
/-! builders: what is appended -/
section
variable {K : Nat → Nat → Nat}
theorem dm.up {N0 N : NM} (h : dm N0 N) (q : Nat) (e : NE) : dm N0 (va_up N q (some e)) := fun z hz => by
  by_cases c : z = q
  · rw [c, up_eq]; exact fun e => by cases e
  · rw [up_ne _ _ _ c]; exact h z hz
theorem putL_fit {f : Nat → Int32} {cap p : Nat} {X : List Int} (hf : ∀ i, i < cap → fits .byte (.int (f i)) = true) (hX : ∀ c ∈ X, 0 ≤ c ∧ c ≤ 127) : ∀ i, i < cap → fits .byte (.int (putL f p X i)) = true := fun i hi => by
  unfold putL
  split
  · rename_i c
    have : i - p < X.length := by omega
    have hm : X.getD (i - p) 0 ∈ X := by rw [List.getD_eq_getElem?_getD, List.getElem?_eq_getElem this]; exact List.getElem_mem _
    have := hX _ hm
    exact fit8 (by omega)
  · exact hf i hi
theorem putL_at {f : Nat → Int32} {L X : List Int} (hf : ∀ i c, L[i]? = some c → f i = iI c) : ∀ i c, (L ++ X)[i]? = some c → putL f L.length X i = iI c := fun i c h => by
  unfold putL
  have hi := (List.getElem?_eq_some_iff.mp h).1
  rw [List.length_append] at hi
  by_cases c1 : L.length ≤ i
  · rw [List.getElem?_append_right c1] at h
    rw [if_pos ⟨c1, by omega⟩, List.getD_eq_getElem?_getD, h]; rfl
  · rw [List.getElem?_append_left (by omega)] at h
    rw [if_neg (by omega)]; exact hf i c h
/-- the builder's cells, the list X put behind L -/
theorem sBy.put {N0 N : NM} {x y bc bs k cap : Nat} {L X : List Int} {f : Nat → Int32} {hh : Int32} (x0 : N0 x = none) (y0 : N0 y = none) (hd : dm N0 N) (hxy : x ≠ y) (h3 : ∀ i, i < cap → fits .byte (.int (f i)) = true) (h4 : ∀ i c, L[i]? = some c → f i = iI c) (h5 : ∀ c ∈ L, 0 ≤ c ∧ c ≤ 127) (h6 : L.length + k ≤ cap) (h7 : sB cap bc bs) (hX : ∀ c ∈ X, 0 ≤ c ∧ c ≤ 127) (hk : X.length = k) (e1 : N x = some (eO 17 [va_rf (some y), .int 0, .int hh, .int (iI ((L.length + k : Nat) : Int))])) (e2 : N y = some (eN 3 cap (putL f L.length X))) : sBd N0 N x (L ++ X) bc bs := by
  refine ⟨y, cap, _, hh, x0, y0, hd, ?_, e2, putL_fit h3 hX, putL_at h4, fun c hc => ?_, by rw [List.length_append]; omega, h7⟩
  · rw [List.length_append, hk]; exact e1
  · rcases List.mem_append.mp hc with hc | hc
    · exact h5 c hc
    · exact hX c hc
/-- append(char) -/
theorem c_appC {N0 N : NM} {x bc bs : Nat} {L : List Int} {c : Int} (hB : sBd N0 N x L bc bs) (hc : 0 ≤ c ∧ c ≤ 127) (hl : L.length + 1 ≤ 2302) : ∃ uc us bc' bs', uc + bc' ≤ bc ∧ us + bs' ≤ bs ∧ ∀ (MC MS : Nat), uc ≤ MC → us ≤ MS → ∀ post : Nat → NM → Prop, (∀ N', sBd N0 N' x (L ++ [c]) bc' bs' → fb N0 N x N' → post x N') → wJ11_append K post MC MS N x (iI c) := by
  obtain ⟨uc, us, bc', bs', u1, u2, hE⟩ := c_ensure (K := K) (k := 1) hB (by omega) hl
  refine ⟨uc, us, bc', bs', u1, u2, fun MC MS hMC hMS post h => ?_⟩
  obtain ⟨yy, cap0, f0, hh0, x00, y00, -, o1, -⟩ := hB
  have fx : ∀ e, N x = some e → fk e = 0 := fun e he => by rw [o1] at he; cases he; rfl
  unfold wJ11_append wJ10_append
  refine ⟨_, _, _, _, o1, MC, MS, Nat.le_refl _, Nat.le_refl _, _, _, _, _, o1, MC, MS, Nat.le_refl _, Nat.le_refl _, ?_⟩
  rw [show (1 : Int32) = iI 1 from rfl, iI_add]
  refine hE MC MS hMC hMS _ (fun N7 y' hS hf hk => ?_)
  have hS0 := hS
  obtain ⟨cap, f, hh, x0, y0, hd, h1, h2, h3, h4, h5, h6, h7⟩ := hS
  have hxy : x ≠ y' := fun e => by rw [e, h2] at h1; cases h1
  have hcap := h7.in
  refine ⟨_, _, _, _, h1, c_latin hS0 (b_f (by decide) ?_)⟩
  unfold wJ16_canEncode
  rw [show (255 : Int32) = iI 255 from rfl, iI_lt (by omega) (by omega) (by omega) (by omega)]
  refine b_f (by omega) (b_f (by decide) ⟨_, _, _, _, h1, fun N35 e35 => ⟨y', rfl, cap, f, by rw [e35, up_ne _ _ _ (Ne.symm hxy)]; exact h2, iI_in (by omega) (by omega) (by omega), fun N43 e43 => ?_⟩⟩)
  subst e35
  rw [iI_add, nat_i (by omega), by8, iI_toInt (by omega) (by omega), show c % 256 = c by omega, show sgB c = c by unfold sgB; rw [if_pos (by omega)], nar8 (by omega), show upd f L.length (iI c) = putL f L.length [c] by rw [← putL_cons, putL_nil]] at e43
  subst e43
  refine h _ (sBy.put x0 y0 ((hd.up x _).up y' _) hxy h3 h4 h5 h6 h7 (fun d hd => by rw [List.mem_singleton.mp hd]; exact hc) rfl (by rw [up_ne _ _ _ hxy]; exact up_eq _ _ _) (up_eq _ _ _)) ⟨y', x00, y0, fx, hk, fun z e he z1 z2 => ?_⟩
  rw [up_ne _ _ _ z2, up_ne _ _ _ z1]
  exact hf z e he z1 z2
theorem wL_t : ∀ t : Fin 12, sByt.getD t.val [] = (wL t.val).map iI ∧ (wL t.val).length = sLen.getD t.val 0 ∧ (∀ c ∈ wL t.val, 0 ≤ c ∧ c ≤ 127) ∧ (wL t.val).length ≤ 6 := by decide +kernel
theorem cpy_putL (f : Nat → Int32) (p : Nat) (X : List Int) : va_cpy (fun j => (X.map iI).getD j 0) f 0 p X.length = putL f p X := by
  funext i
  unfold va_cpy putL
  by_cases c : p ≤ i ∧ i < p + X.length
  · rw [if_pos c, if_pos c, Nat.zero_add]
    dsimp only
    rw [List.getD_eq_getElem?_getD, List.getElem?_map, List.getD_eq_getElem?_getD]
    rw [List.getElem?_eq_getElem (show i - p < X.length by omega)]; rfl
  · rw [if_neg c, if_neg c]
/-- append(String), a constant -/
theorem c_appS {N0 N : NM} {x bc bs t : Nat} {L : List Int} (hB : sBd N0 N x L bc bs) (ht : t < 12) (hl : L.length + 6 ≤ 2302) : ∃ uc us bc' bs', uc + bc' ≤ bc ∧ us + bs' ≤ bs ∧ ∀ (MC MS : Nat), uc ≤ MC → us ≤ MS → ∀ post : Nat → NM → Prop, (∀ N', sBd N0 N' x (L ++ wL t) bc' bs' → fb N0 N x N' → post x N') → wJ11_append_3 K post MC MS N x t := by
  obtain ⟨w1, w2, w3, w4⟩ := wL_t ⟨t, ht⟩
  simp only at w1 w2 w3 w4
  obtain ⟨uc, us, bc', bs', u1, u2, hE⟩ := c_ensure (K := K) (k := (wL t).length) hB (by omega) (by omega)
  refine ⟨uc, us, bc', bs', u1, u2, fun MC MS hMC hMS post h => ?_⟩
  obtain ⟨yy, cap0, f0, hh0, x00, y00, -, o1, -⟩ := hB
  have fx : ∀ e, N x = some e → fk e = 0 := fun e he => by rw [o1] at he; cases he; rfl
  unfold wJ11_append_3 wJ10_append_3
  refine ⟨_, _, _, _, o1, MC, MS, Nat.le_refl _, Nat.le_refl _, ht, _, _, _, _, o1, MC, MS, Nat.le_refl _, Nat.le_refl _, ?_⟩
  rw [nI_i, iI_add, ← w2]
  refine hE MC MS hMC hMS _ (fun N7 y' hS hf hk => ?_)
  obtain ⟨cap, f, hh, x0, y0, hd, h1, h2, h3, h4, h5, h6, h7⟩ := hS
  have hxy : x ≠ y' := fun e => by rw [e, h2] at h1; cases h1
  have hcap := h7.in
  have e0 : (0 : Int32).toNatClampNeg = 0 := by decide
  have hneg : ∀ n : Nat, n ≤ 10000 → ¬ iI (n : Int) < 0 := fun n hn => by
    rw [show (0 : Int32) = iI 0 from rfl, iI_lt (by omega) (by omega) (by omega) (by omega)]; omega
  refine ⟨_, _, _, _, h1, ?_⟩
  unfold wJ10_putStringAt wJ10_inflateIfNeededFor
  refine ⟨_, _, _, _, h1, fun e => absurd e (by decide), fun _ => ⟨_, _, _, _, h1, ht, fun _ => ⟨_, _, _, _, h1, ht, y', rfl, ht, ?_⟩, fun e => absurd rfl e⟩⟩
  unfold wJ6_getBytes
  refine ⟨ht, fun _ => ⟨_, _, h2, by decide, by rw [(sh0 _).2]; exact hneg _ (by omega), by rw [nI_i]; exact hneg _ (by omega), ?_, ?_, fun i hi => ?_, fun N12 e12 => ?_⟩, fun e => absurd rfl e⟩
  · rw [e0, nI_i, nat_i (by omega)]; omega
  · rw [(sh0 _).2, nI_i, nat_i (by omega), nat_i (by omega)]; omega
  · rw [nI_i, nat_i (by omega), ← w2] at hi
    rw [e0, Nat.zero_add, w1]
    dsimp only
    rw [List.getD_eq_getElem?_getD, List.getElem?_map, List.getElem?_eq_getElem hi]
    have := w3 _ (List.getElem_mem hi)
    exact fit8 (by omega)
  · rw [(sh0 _).2, nI_i, nat_i (by omega), nat_i (by omega), e0, w1, ← w2, cpy_putL] at e12
    subst e12
    refine ⟨_, _, _, _, by rw [up_ne _ _ _ hxy]; exact h1, fun N25 e25 => ?_⟩
    rw [iI_add] at e25
    subst e25
    refine h _ (sBy.put x0 y0 ((hd.up y' _).up x _) hxy h3 h4 h5 h6 h7 w3 rfl (up_eq _ _ _) (by rw [up_ne _ _ _ (Ne.symm hxy)]; exact up_eq _ _ _)) ⟨y', x00, y0, fx, hk, fun z e he z1 z2 => ?_⟩
    rw [up_ne _ _ _ z1, up_ne _ _ _ z2]
    exact hf z e he z1 z2
end
