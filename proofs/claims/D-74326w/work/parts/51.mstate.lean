set_option maxRecDepth 100000
set_option maxHeartbeats 4000000
/-! the model: forms made -/
/-- a term's four numbers in the model's row -/
def rTm (f : Nat → Int32) (s i : Nat) (t : tm) : Prop := f (4 * (5 * s + i)) = iI t.1 ∧ f (4 * (5 * s + i) + 1) = iI t.2.1 ∧ f (4 * (5 * s + i) + 2) = iI t.2.2.1 ∧ f (4 * (5 * s + i) + 3) = iI t.2.2.2
theorem rTm.of {f g : Nat → Int32} {s i s2 i2 : Nat} {t : tm} (h : rTm f s i t) (e : ∀ k, k < 4 → g (4 * (5 * s2 + i2) + k) = f (4 * (5 * s + i) + k)) : rTm g s2 i2 t :=
  ⟨(e 0 (by omega)).trans h.1, (e 1 (by omega)).trans h.2.1, (e 2 (by omega)).trans h.2.2.1, (e 3 (by omega)).trans h.2.2.2⟩
theorem m_copies_3 {post : Unit → MS → Prop} {S : MS} {s i d j : Nat} {f0 : Nat → Int32} (hs : s ≤ 4) (hi : i < 5) (hd : d ≤ 4) (hj : j < 5) (hne : 5 * s + i ≠ 5 * d + j) (h : ∀ f : Nat → Int32, (∀ k, k < 4 → f (4 * (5 * d + j) + k) = f0 (4 * (5 * s + i) + k)) → (∀ q, (q < 4 * (5 * d + j) ∨ 4 * (5 * d + j) + 4 ≤ q) → f q = f0 q) → post () (mA S 1 f)) : ∀ (m k : Nat) (f : Nat → Int32), k + m = 4 → (∀ z, z < k → f (4 * (5 * d + j) + z) = f0 (4 * (5 * s + i) + z)) → (∀ q, (q < 4 * (5 * d + j) ∨ 4 * (5 * d + j) + 4 ≤ q) → f q = f0 q) → wX1_copies_3 post (m + 1) (iI s) (iI i) (iI d) (iI j) (iI k) (mA S 1 f) := by
  intro m
  induction m with
  | zero =>
    intro k f hk h1 h2
    unfold wX1_copies_3
    exact b_t (by simp (disch := omega) only [iLit, lLit, iI_add, iI_sub, iI_mul, iI_neg, lI_add, lI_sub, lI_mul, lI_neg, nI_i, lI_i, iI_l, iI_nat, iI_lt, iI_le, iI_eq, lI_lt, lI_le, lI_eq] <;> omega) (h f (fun z hz => h1 z (by omega)) h2)
  | succ m ih =>
    intro k f hk h1 h2
    unfold wX1_copies_3
    refine b_f (by simp (disch := omega) only [iLit, lLit, iI_add, iI_sub, iI_mul, iI_neg, lI_add, lI_sub, lI_mul, lI_neg, nI_i, lI_i, iI_l, iI_nat, iI_lt, iI_le, iI_eq, lI_lt, lI_le, lI_eq] <;> omega) ?_
    simp (disch := omega) only [iLit, lLit, iI_add, iI_sub, iI_mul, iI_neg, lI_add, lI_sub, lI_mul, lI_neg, nI_i, lI_i, iI_nat, mA_at, mA_mA]
    refine ⟨iI_in (by omega) (by omega) (by omega), iI_in (by omega) (by omega) (by omega), ?_⟩
    rw [show (4 * (5 * (d : Int) + (j : Int)) + (k : Int)).toNat = 4 * (5 * d + j) + k by omega, show (4 * (5 * (s : Int) + (i : Int)) + (k : Int)).toNat = 4 * (5 * s + i) + k by omega]
    refine ih (k + 1) _ (by omega) (fun z hz => ?_) (fun q hq => ?_)
    · unfold upd
      by_cases e : z = k
      · rw [if_pos (by omega), e, h2 _ (by omega)]
      · rw [if_neg (by omega)]; exact h1 z (by omega)
    · unfold upd
      rw [if_neg (by omega)]; exact h2 q hq
theorem m_copies {post : Unit → MS → Prop} {S : MS} {s i d j : Nat} (hs : s ≤ 4) (hi : i < 5) (hd : d ≤ 4) (hj : j < 5) (hne : 5 * s + i ≠ 5 * d + j) (h : ∀ f : Nat → Int32, (∀ k, k < 4 → f (4 * (5 * d + j) + k) = S.2.2.1 1 (4 * (5 * s + i) + k)) → (∀ q, (q < 4 * (5 * d + j) ∨ 4 * (5 * d + j) + 4 ≤ q) → f q = S.2.2.1 1 q) → post () (mA S 1 f)) : wX1_copies post S (iI s) (iI i) (iI d) (iI j) := by
  have key := m_copies_3 (post := post) (S := S) (f0 := S.2.2.1 1) hs hi hd hj hne h 4 0 (S.2.2.1 1) (by omega) (fun z hz => by omega) (fun _ _ => rfl)
  rw [mA_id] at key
  exact ⟨5, key⟩
theorem m_takes_14 {post : Unit → MS → Prop} {S : MS} {d : Nat} (hd : d < 4) {f0 : Nat → Int32} (h : ∀ f : Nat → Int32, (∀ i, i < 5 → ∀ k, k < 4 → f (4 * (5 * d + i) + k) = f0 (4 * (5 * 4 + i) + k)) → (∀ q, (q < 4 * (5 * d) ∨ 4 * (5 * d) + 20 ≤ q) → f q = f0 q) → post () (mI (mI (mA S 1 f) 21 (iI (-1))) 23 (iI (-1)))) : ∀ (m i : Nat) (f : Nat → Int32), i + m = 5 → (∀ j, j < i → ∀ k, k < 4 → f (4 * (5 * d + j) + k) = f0 (4 * (5 * 4 + j) + k)) → (∀ q, (q < 4 * (5 * d) ∨ 4 * (5 * d) + 20 ≤ q) → f q = f0 q) → wX1_takesOver_14 post (m + 1) (iI d) (iI i) (mA S 1 f) := by
  intro m
  induction m with
  | zero =>
    intro i f hi h1 h2
    unfold wX1_takesOver_14
    exact b_t (by simp (disch := omega) only [iLit, lLit, iI_add, iI_sub, iI_mul, iI_neg, lI_add, lI_sub, lI_mul, lI_neg, nI_i, lI_i, iI_l, iI_nat, iI_lt, iI_le, iI_eq, lI_lt, lI_le, lI_eq] <;> omega) (h f (fun j hj => h1 j (by omega)) h2)
  | succ m ih =>
    intro i f hi h1 h2
    unfold wX1_takesOver_14
    refine b_f (by simp (disch := omega) only [iLit, lLit, iI_add, iI_sub, iI_mul, iI_neg, lI_add, lI_sub, lI_mul, lI_neg, nI_i, lI_i, iI_l, iI_nat, iI_lt, iI_le, iI_eq, lI_lt, lI_le, lI_eq] <;> omega) ?_
    refine m_copies (s := 4) (by omega) (by omega) (by omega) (by omega) (by omega) (fun g a b => ?_)
    rw [mA_mA]
    rw [mA_at] at a b
    simp only [iLit, lLit, iI_add, iI_sub, iI_mul, iI_neg, lI_add, lI_sub, lI_mul, lI_neg, nI_i, lI_i]
    refine ih (i + 1) g (by omega) (fun j hj k hk => ?_) (fun q hq => ?_)
    · by_cases e : j = i
      · subst e; rw [a k hk, h2 _ (by omega)]
      · rw [b _ (by omega)]; exact h1 j (by omega) k hk
    · rw [b _ (by omega)]; exact h2 q hq
/-- a form is laid into a slot -/
def upF (F : Nat → List tm) (s : Nat) (L : List tm) : Nat → List tm := fun q => if q = s then L else F q
theorem upF_s (F : Nat → List tm) (s : Nat) (L : List tm) : upF F s L s = L := if_pos rfl
theorem m_takes {post : Unit → MS → Prop} {S : MS} {F : Nat → List tm} {d : Nat} {L : List tm} (hF : mForms S F) (hd : d < 4) (hL : vF L) (h4 : S.2.2.1 0 4 = iI (L.length : Nat)) (hT : ∀ i t, L[i]? = some t → rTm (S.2.2.1 1) 4 i t) (h : ∀ f0 f1 : Nat → Int32, mForms (mA (mA S 0 f0) 1 f1) (upF F d L) → post () (mI (mI (mA (mA S 0 f0) 1 f1) 21 (iI (-1))) 23 (iI (-1)))) : wX1_takesOver post S (iI d) := by
  unfold wX1_takesOver
  refine ⟨iI_in (z := 4) (by omega) (by omega) (by omega), iI_in (by omega) (by omega) (by omega), 6, ?_⟩
  rw [iI_nat (by omega) (by omega), show ((d : Int)).toNat = d by omega, show Int32.toNatClampNeg 4 = 4 from rfl, h4]
  have hl5 := hL.1
  have key := m_takes_14 (post := post) (S := mA S 0 (upd (S.2.2.1 0) d (iI (L.length : Nat)))) hd (f0 := S.2.2.1 1) (fun f a b => ?_) 5 0 (S.2.2.1 1) (by omega) (fun j hj => by omega) (fun _ _ => rfl)
  · have e : mA (mA S 0 (upd (S.2.2.1 0) d (iI (L.length : Nat)))) 1 (S.2.2.1 1) = mA S 0 (upd (S.2.2.1 0) d (iI (L.length : Nat))) := mA_id (mA S 0 (upd (S.2.2.1 0) d (iI (L.length : Nat)))) 1
    rw [e] at key
    exact key
  · refine h _ f (fun q hq => ?_)
    obtain ⟨e0, hv, hf⟩ := hF q hq
    have hq5 := hv.1
    show (mA S 0 (upd (S.2.2.1 0) d (iI (L.length : Nat)))).2.2.1 0 q = iI ((upF F d L q).length : Nat) ∧ vF (upF F d L q) ∧ ∀ i t, (upF F d L q)[i]? = some t → rTm ((mA (mA S 0 (upd (S.2.2.1 0) d (iI (L.length : Nat)))) 1 f).2.2.1 1) q i t
    rw [mA_at, mA_at]
    unfold upF upd
    by_cases e : q = d
    · subst e
      simp only [if_pos]
      refine ⟨trivial, hL, fun i t hit => (hT i t hit).of (fun k hk => a i ?_ k hk)⟩
      have := (List.getElem?_eq_some_iff.mp hit).1
      omega
    · simp only [if_neg e]
      refine ⟨e0, hv, fun i t hit => ?_⟩
      have hi5 := (List.getElem?_eq_some_iff.mp hit).1
      exact (show rTm (S.2.2.1 1) q i t from hf i t hit).of (fun k hk => b _ (by omega))
/-- terms are gathered behind the slots -/
def gath (f : Nat → Int32) (L : List tm) (n : Nat) : Prop := ∀ i t, i < n → L[i]? = some t → rTm f 4 i t
theorem gath.step {f g : Nat → Int32} {L : List tm} {n s i : Nat} {t : tm} (h : gath f L n) (hn : n < 5) (hr : rTm f s i t) (ht : L[n]? = some t) (a : ∀ k, k < 4 → g (4 * (5 * 4 + n) + k) = f (4 * (5 * s + i) + k)) (b : ∀ q, (q < 4 * (5 * 4 + n) ∨ 4 * (5 * 4 + n) + 4 ≤ q) → g q = f q) : gath g L (n + 1) := by
  intro j u hj hu
  by_cases e : j = n
  · subst e
    rw [ht] at hu
    cases hu
    exact hr.of a
  · exact (h j u (by omega) hu).of (fun k hk => b _ (by omega))
theorem mForms.keep {S : MS} {F : Nat → List tm} {f g : Nat → Int32} (h : mForms (mA S 1 f) F) (b : ∀ q, q < 80 → g q = f q) : mForms (mA S 1 g) F := by
  intro s hs
  obtain ⟨e0, hv, hf⟩ := h s hs
  refine ⟨e0, hv, fun i t hit => ?_⟩
  have := (List.getElem?_eq_some_iff.mp hit).1
  have := hv.1
  have h2 : rTm ((mA S 1 f).2.2.1 1) s i t := hf i t hit
  show rTm ((mA S 1 g).2.2.1 1) s i t
  rw [mA_at] at h2 ⊢
  exact h2.of (fun k hk => b _ (by omega))
theorem mForms.many {S : MS} {F : Nat → List tm} {f : Nat → Int32} (h : mForms S F) (hf : ∀ q, q < 4 → f q = S.2.2.1 0 q) : mForms (mA S 0 f) F := by
  intro s hs
  obtain ⟨e0, hv, ht⟩ := h s hs
  refine ⟨?_, hv, ht⟩
  rw [mA_at, hf s hs]; exact e0
/-- how the model's forms lie behind a change: all of it that a made form needs -/
abbrev mkF (post : Int32 → MS → Prop) (S : MS) (F : Nat → List tm) (d : Nat) (L : List tm) : Prop := ∀ f0 f1 : Nat → Int32, mForms (mA (mA S 0 f0) 1 f1) (upF F d L) → post 1 (mI (mI (mA (mA S 0 f0) 1 f1) 21 (iI (-1))) 23 (iI (-1)))
theorem m_drop_27 {post : Int32 → MS → Prop} {S : MS} {F : Nat → List tm} {s i : Nat} (hF : mForms S F) (hs : s < 4) (hi : i < (F s).length) (h4 : S.2.2.1 0 4 = iI (((F s).length : Int) - 1)) (h : ∀ f1 f2 : Nat → Int32, mForms (mA (mA S 0 f1) 1 f2) (upF F s ((F s).eraseIdx i)) → post 1 (mI (mI (mA (mA S 0 f1) 1 f2) 21 (iI (-1))) 23 (iI (-1)))) : ∀ (m k : Nat) (f : Nat → Int32), k + m + 1 = (F s).length → mForms (mA S 1 f) F → gath f ((F s).eraseIdx i) k → wX1_drop_27 post (m + 1) (iI s) (iI i) (iI k) (mA S 1 f) := by
  obtain ⟨e0, hv, hf⟩ := hF s hs
  have hl5 := hv.1
  have hlen : ((F s).eraseIdx i).length = (F s).length - 1 := List.length_eraseIdx_of_lt hi
  intro m
  induction m with
  | zero =>
    intro k f hk hG hg
    unfold wX1_drop_27
    refine ⟨iI_in (z := 4) (by omega) (by omega) (by omega), ?_⟩
    rw [show (mA S 1 f).2.2.1 0 (Int32.toNatClampNeg 4) = _ from h4]
    refine b_t (by simp (disch := omega) only [iLit, lLit, iI_add, iI_sub, iI_mul, iI_neg, lI_add, lI_sub, lI_mul, lI_neg, nI_i, lI_i, iI_l, iI_nat, iI_lt, iI_le, iI_eq, lI_lt, lI_le, lI_eq] <;> omega) ?_
    refine m_takes (S := mA S 1 f) (L := (F s).eraseIdx i) hG hs ⟨by omega, fun t ht => hv.2 t (List.mem_of_mem_eraseIdx ht)⟩ (by rw [hlen]; show S.2.2.1 0 4 = _; rw [h4]; congr 1; omega) (fun j t hj => by
      rw [mA_at]
      have := (List.getElem?_eq_some_iff.mp hj).1
      exact hg j t (by omega) hj) (fun f0 f1 hh => ?_)
    have e : mA (mA (mA S 1 f) 0 f0) 1 f1 = mA (mA S 0 f0) 1 f1 := by
      unfold mA
      congr 3
      funext j
      unfold va_up
      by_cases e1 : j = 1
      · simp only [if_pos e1]
      · by_cases e2 : j = 0
        · subst e2; rfl
        · simp only [if_neg e1, if_neg e2]
    rw [e] at hh ⊢
    exact h f0 f1 hh
  | succ m ih =>
    intro k f hk hG hg
    unfold wX1_drop_27 wX1_drop_51
    refine ⟨iI_in (z := 4) (by omega) (by omega) (by omega), ?_⟩
    rw [show (mA S 1 f).2.2.1 0 (Int32.toNatClampNeg 4) = _ from h4]
    refine b_f (by simp (disch := omega) only [iLit, lLit, iI_add, iI_sub, iI_mul, iI_neg, lI_add, lI_sub, lI_mul, lI_neg, nI_i, lI_i, iI_l, iI_nat, iI_lt, iI_le, iI_eq, lI_lt, lI_le, lI_eq] <;> omega) ?_
    have step : ∀ c : Nat, c < (F s).length → ((F s).eraseIdx i)[k]? = (F s)[c]? → wX1_copies (fun _ S9 => wX1_drop_27 post (m + 1) (iI s) (iI i) (iI ((k : Int) + 1)) S9) (mA S 1 f) (iI s) (iI c) (iI 4) (iI k) := by
      intro c hc he
      refine m_copies (d := 4) (by omega) (by omega) (by omega) (by omega) (by omega) (fun g a b => ?_)
      rw [mA_at] at a b
      rw [mA_mA]
      obtain ⟨t, ht⟩ : ∃ t, (F s)[c]? = some t := ⟨_, List.getElem?_eq_getElem hc⟩
      have hr : rTm ((mA S 1 f).2.2.1 1) s c t := (hG s hs).2.2 c t ht
      rw [mA_at] at hr
      exact ih (k + 1) g (by omega) (hG.keep (fun q hq => b q (by omega))) (hg.step (by omega) hr (he.trans ht) a b)
    simp (disch := omega) only [iLit, lLit, iI_add, iI_sub, iI_mul, iI_neg, lI_add, lI_sub, lI_mul, lI_neg, nI_i, lI_i, iI_le]
    refine ⟨fun e => ?_, fun e => ?_⟩
    · have := step (k + 1) (by omega) (by rw [List.getElem?_eraseIdx_of_ge (by omega)])
      exact this
    · have := step k (by omega) (by rw [List.getElem?_eraseIdx_of_lt (by omega)])
      exact this
theorem m_drop {post : Int32 → MS → Prop} {S : MS} {F : Nat → List tm} {a i : Int} (hF : mForms S F) (ha : i32 a) (hi : i32 i) (h0 : ¬ (0 ≤ a ∧ a ≤ 3 ∧ 0 ≤ i ∧ i < (F a.toNat).length) → post 0 S) (h1 : ∀ s j : Nat, s < 4 → a = s → i = j → j < (F s).length → mkF post S F s ((F s).eraseIdx j)) : wX1_drop post S (iI a) (iI i) := by
  unfold wX1_drop
  refine m_isTerm hF ha hi (fun s j t hs e1 e2 ht hj => b_f (by decide) ?_) (fun hc => b_t rfl (h0 hc))
  subst e1 e2
  have hjl := (List.getElem?_eq_some_iff.mp ht).1
  have hl5 := (hF s hs).2.1.1
  refine ⟨iI_in (by omega) (by omega) (by omega), iI_in (z := 4) (by omega) (by omega) (by omega), (F s).length, ?_⟩
  rw [iI_nat (by omega) (by omega), show ((s : Int)).toNat = s by omega, (hF s hs).1]
  simp only [iLit, lLit, iI_add, iI_sub, iI_mul, iI_neg, lI_add, lI_sub, lI_mul, lI_neg, nI_i, lI_i]
  obtain ⟨f0, hf0⟩ : ∃ f0, f0 = upd (S.2.2.1 0) (Int32.toNatClampNeg (iI 4)) (iI (((F s).length : Int) - 1)) := ⟨_, rfl⟩
  rw [← hf0]
  have hfq : ∀ q, q < 4 → f0 q = S.2.2.1 0 q := fun q hq => by rw [hf0]; unfold upd; rw [if_neg]; intro e; rw [show Int32.toNatClampNeg (iI 4) = 4 from rfl] at e; omega
  have key := m_drop_27 (post := post) (S := mA S 0 f0) (F := F) (hF.many hfq) hs hjl (by rw [mA_at, hf0]; rfl) (fun f1 f2 hh => by rw [mA_mA] at hh ⊢; exact h1 s j hs rfl rfl hjl f1 f2 hh) ((F s).length - 1) 0 (S.2.2.1 1) (by omega) (by
    rw [show mA (mA S 0 f0) 1 (S.2.2.1 1) = mA S 0 f0 from mA_id (mA S 0 f0) 1]; exact hF.many hfq) (fun j t hj => by omega)
  rw [show mA (mA S 0 f0) 1 (S.2.2.1 1) = mA S 0 f0 from mA_id (mA S 0 f0) 1, show (F s).length - 1 + 1 = (F s).length by omega] at key
  exact key
/-- the i-th term leads -/
def ldL (L : List tm) (i : Nat) : List tm := match L[i]? with
  | some t => t :: L.eraseIdx i
  | none => L
theorem ldL_eq {L : List tm} {i : Nat} (h : i < L.length) : ldL L i = L[i] :: L.eraseIdx i := by unfold ldL; rw [List.getElem?_eq_getElem h]
theorem ldL_len {L : List tm} {i : Nat} (h : i < L.length) : (ldL L i).length = L.length := by rw [ldL_eq h, List.length_cons, List.length_eraseIdx_of_lt h]; omega
theorem ldL_0 {L : List tm} {i : Nat} (h : i < L.length) : (ldL L i)[0]? = L[i]? := by rw [ldL_eq h, List.getElem?_eq_getElem h]; rfl
theorem ldL_s {L : List tm} {i k : Nat} (h : i < L.length) (hk : k ≠ 0) : (ldL L i)[k]? = (L.eraseIdx i)[k - 1]? := by
  rw [ldL_eq h]
  obtain ⟨j, rfl⟩ : ∃ j, k = j + 1 := ⟨k - 1, by omega⟩
  rfl
theorem ldL_mem {L : List tm} {i : Nat} {t : tm} (h : t ∈ ldL L i) : t ∈ L := by
  unfold ldL at h
  split at h
  · rename_i u hu
    rcases List.mem_cons.mp h with e | e
    · rw [e]; exact List.mem_of_getElem? hu
    · exact List.mem_of_mem_eraseIdx e
  · exact h
theorem m_lead_25 {post : Int32 → MS → Prop} {S : MS} {F : Nat → List tm} {s i : Nat} (hF : mForms S F) (hs : s < 4) (hi : i < (F s).length) (h4 : S.2.2.1 0 4 = iI ((F s).length : Nat)) (h : ∀ f1 f2 : Nat → Int32, mForms (mA (mA S 0 f1) 1 f2) (upF F s (ldL (F s) i)) → post 1 (mI (mI (mA (mA S 0 f1) 1 f2) 21 (iI (-1))) 23 (iI (-1)))) : ∀ (m k : Nat) (f : Nat → Int32), k + m = (F s).length → mForms (mA S 1 f) F → gath f (ldL (F s) i) k → wX1_lead_25 post (m + 1) (iI s) (iI i) (iI k) (mA S 1 f) := by
  obtain ⟨e0, hv, hf⟩ := hF s hs
  have hl5 := hv.1
  have hlen : (ldL (F s) i).length = (F s).length := ldL_len hi
  intro m
  induction m with
  | zero =>
    intro k f hk hG hg
    unfold wX1_lead_25
    refine ⟨iI_in (z := 4) (by omega) (by omega) (by omega), ?_⟩
    rw [show (mA S 1 f).2.2.1 0 (Int32.toNatClampNeg 4) = _ from h4]
    refine b_t (by simp (disch := omega) only [iLit, lLit, iI_add, iI_sub, iI_mul, iI_neg, lI_add, lI_sub, lI_mul, lI_neg, nI_i, lI_i, iI_l, iI_nat, iI_lt, iI_le, iI_eq, lI_lt, lI_le, lI_eq] <;> omega) ?_
    refine m_takes (S := mA S 1 f) (L := ldL (F s) i) hG hs ⟨by omega, fun t ht => hv.2 t (ldL_mem ht)⟩ (by rw [hlen]; exact h4) (fun j t hj => by
      rw [mA_at]
      have := (List.getElem?_eq_some_iff.mp hj).1
      exact hg j t (by omega) hj) (fun f0 f1 hh => ?_)
    have e : mA (mA (mA S 1 f) 0 f0) 1 f1 = mA (mA S 0 f0) 1 f1 := by
      unfold mA
      congr 3
      funext j
      unfold va_up
      by_cases e1 : j = 1
      · simp only [if_pos e1]
      · by_cases e2 : j = 0
        · subst e2; rfl
        · simp only [if_neg e1, if_neg e2]
    rw [e] at hh ⊢
    exact h f0 f1 hh
  | succ m ih =>
    intro k f hk hG hg
    unfold wX1_lead_25 wX1_lead_57
    refine ⟨iI_in (z := 4) (by omega) (by omega) (by omega), ?_⟩
    rw [show (mA S 1 f).2.2.1 0 (Int32.toNatClampNeg 4) = _ from h4]
    refine b_f (by simp (disch := omega) only [iLit, lLit, iI_add, iI_sub, iI_mul, iI_neg, lI_add, lI_sub, lI_mul, lI_neg, nI_i, lI_i, iI_l, iI_nat, iI_lt, iI_le, iI_eq, lI_lt, lI_le, lI_eq] <;> omega) ?_
    have step : ∀ c : Nat, c < (F s).length → (ldL (F s) i)[k]? = (F s)[c]? → wX1_copies (fun _ S9 => wX1_lead_25 post (m + 1) (iI s) (iI i) (iI ((k : Int) + 1)) S9) (mA S 1 f) (iI s) (iI c) (iI 4) (iI k) := by
      intro c hc he
      refine m_copies (d := 4) (by omega) (by omega) (by omega) (by omega) (by omega) (fun g a b => ?_)
      rw [mA_at] at a b
      rw [mA_mA]
      obtain ⟨t, ht⟩ : ∃ t, (F s)[c]? = some t := ⟨_, List.getElem?_eq_getElem hc⟩
      have hr : rTm ((mA S 1 f).2.2.1 1) s c t := (hG s hs).2.2 c t ht
      rw [mA_at] at hr
      exact ih (k + 1) g (by omega) (hG.keep (fun q hq => b q (by omega))) (hg.step (by omega) hr (he.trans ht) a b)
    simp (disch := omega) only [iLit, lLit, iI_add, iI_sub, iI_mul, iI_neg, lI_add, lI_sub, lI_mul, lI_neg, nI_i, lI_i, iI_eq, iI_lt]
    refine ⟨fun e => ?_, fun e => ⟨fun e2 => ?_, fun e2 => ?_⟩⟩
    · have := step i (by omega) (by rw [show k = 0 by omega]; exact ldL_0 hi)
      exact this
    · have := step k (by omega) (by rw [ldL_s hi (by omega), List.getElem?_eraseIdx_of_ge (by omega), show k - 1 + 1 = k by omega])
      exact this
    · have := step (k - 1) (by omega) (by rw [ldL_s hi (by omega), List.getElem?_eraseIdx_of_lt (by omega)])
      rw [show ((k - 1 : Nat) : Int) = (k : Int) - 1 by omega] at this
      exact this
theorem m_lead {post : Int32 → MS → Prop} {S : MS} {F : Nat → List tm} {a i : Int} (hF : mForms S F) (ha : i32 a) (hi : i32 i) (h0 : ¬ (0 ≤ a ∧ a ≤ 3 ∧ 0 ≤ i ∧ i < (F a.toNat).length) → post 0 S) (h1 : ∀ s j : Nat, s < 4 → a = s → i = j → j < (F s).length → mkF post S F s (ldL (F s) j)) : wX1_lead post S (iI a) (iI i) := by
  unfold wX1_lead
  refine m_isTerm hF ha hi (fun s j t hs e1 e2 ht hj => b_f (by decide) ?_) (fun hc => b_t rfl (h0 hc))
  subst e1 e2
  have hjl := (List.getElem?_eq_some_iff.mp ht).1
  have hl5 := (hF s hs).2.1.1
  refine ⟨iI_in (by omega) (by omega) (by omega), iI_in (z := 4) (by omega) (by omega) (by omega), (F s).length + 1, ?_⟩
  rw [iI_nat (by omega) (by omega), show ((s : Int)).toNat = s by omega, (hF s hs).1]
  simp only [iLit, lLit, iI_add, iI_sub, iI_mul, iI_neg, lI_add, lI_sub, lI_mul, lI_neg, nI_i, lI_i]
  obtain ⟨f0, hf0⟩ : ∃ f0, f0 = upd (S.2.2.1 0) (Int32.toNatClampNeg (iI 4)) (iI ((F s).length : Nat)) := ⟨_, rfl⟩
  rw [← hf0]
  have hfq : ∀ q, q < 4 → f0 q = S.2.2.1 0 q := fun q hq => by rw [hf0]; unfold upd; rw [if_neg]; intro e; rw [show Int32.toNatClampNeg (iI 4) = 4 from rfl] at e; omega
  have key := m_lead_25 (post := post) (S := mA S 0 f0) (F := F) (hF.many hfq) hs hjl (by rw [mA_at, hf0]; rfl) (fun f1 f2 hh => by rw [mA_mA] at hh ⊢; exact h1 s j hs rfl rfl hjl f1 f2 hh) (F s).length 0 (S.2.2.1 1) (by omega) (by
    rw [show mA (mA S 0 f0) 1 (S.2.2.1 1) = mA S 0 f0 from mA_id (mA S 0 f0) 1]; exact hF.many hfq) (fun j t hj => by omega)
  rw [show mA (mA S 0 f0) 1 (S.2.2.1 1) = mA S 0 f0 from mA_id (mA S 0 f0) 1] at key
  exact key
