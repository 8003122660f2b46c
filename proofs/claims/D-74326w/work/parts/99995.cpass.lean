set_option maxRecDepth 100000
set_option maxHeartbeats 4000000
section
variable {K : Nat → Nat → Nat} {a : Nat → Nat}
theorem seen_eq {L : List Int} {f : Nat → Int32} {t : Nat} (ht : t < 12) (hf : ∀ i c, L[i]? = some c → f i = iI c) (hc : ∀ c ∈ L, 0 ≤ c ∧ c ≤ 127) : (L.length = sLen.getD t 0 ∧ ∀ i, i < L.length → f i = (fun j => (sByt.getD t []).getD j 0) i) ↔ L = wL t := by
  obtain ⟨w1, w2, w3, w4⟩ := wL_t ⟨t, ht⟩
  simp only at w1 w2 w3 w4
  refine ⟨fun ⟨e, h⟩ => List.ext_getElem (by omega) (fun i i1 i2 => ?_), fun e => ⟨by rw [e]; exact w2, fun i hi => ?_⟩⟩
  · have h' := h i i1
    rw [hf i _ (List.getElem?_eq_getElem i1)] at h'
    dsimp only at h'
    rw [w1, List.getD_eq_getElem?_getD, List.getElem?_map, List.getElem?_eq_getElem i2] at h'
    have b1 := hc _ (List.getElem_mem i1)
    have b2 := w3 _ (List.getElem_mem i2)
    exact (iI_eq (by omega) (by omega) (by omega) (by omega)).1 h'
  · subst e
    dsimp only
    rw [hf i _ (List.getElem?_eq_getElem hi), w1, List.getD_eq_getElem?_getD, List.getElem?_map, List.getElem?_eq_getElem hi]
    rfl
/-- a word is passed, if it stands here -/
theorem c_passesW {post : Int32 → NM → Prop} {S : CS} {N : NM} {T : Nat → Int} {n p x t MC MS : Nat} {b d : Int32} (hL : cL K a S N) (hT : cTape S T n) (hx : N x = some (rdr a p b d)) (hp : p ≤ n) (ht : t < 12) (hs1 : 1 ≤ sLen.getD t 0) (hs6 : sLen.getD t 0 ≤ 6) (hMC : 4 ≤ MC) (hMS : 40 ≤ MS) (h1 : wdIs T n p t → ∀ N', nw N N' → post 1 (va_up N' x (some (rdr a (nxT T n p) b d)))) (h0 : ¬ wdIs T n p t → ∀ N', nw N N' → post 0 N') : wX2_passes K post MC MS N x (some (K 0 t)) := by
  unfold wX2_passes
  refine ⟨_, _, _, _, hx, MC, MS, Nat.le_refl _, Nat.le_refl _, c_seen hL hT hx hp hMC hMS (fun N' r v r0 v0 hn hs => ?_)⟩
  obtain ⟨f, k1, k2, k3, k4⟩ := hs.kn (K := K)
  have key := seen_eq ht k2 k3
  have hwd := wd_iff (T := T) (n := n) (p := p) ht hs1 hs6
  refine ⟨r, rfl, v, _, f, k1, K 0 t, rfl, K 1 t, sLen.getD t 0, fun j => (sByt.getD t []).getD j 0, ⟨sLen_lt t, Or.inl ⟨t, ht, rfl, rfl, rfl, rfl⟩⟩, fun r24 h24 => ?_⟩
  rcases h24 with ⟨e, q⟩ | ⟨e, q⟩
  · subst e
    have hw : wdIs T n p t := hwd.1 (key.1 q)
    refine b_f (by decide) ⟨_, _, _, _, hn _ _ hx, fun N31 e31 => ?_⟩
    have hle := ende_in (T := T) hp
    have hex := hw.2.1
    have ht8 := hT.1
    rw [nI_i, iI_add, show (p : Int) + (sLen.getD t 0 : Nat) = ((p + sLen.getD t 0 : Nat) : Int) by omega] at e31
    subst e31
    have hL' := hL.nw hn
    refine c_skips (hL'.rd (hn _ _ hx) _) hT (up_eq _ _ _) (by omega) ?_
    rw [up_up, ← hex]
    exact h1 hw N' hn
  · subst e
    exact b_t rfl (h0 (fun z => q (key.2 (hwd.2 z))) N' hn)
end
