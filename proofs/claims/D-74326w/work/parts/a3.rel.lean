set_option maxRecDepth 100000
set_option maxHeartbeats 4000000
/-! one plain state that both objects stand for -/
abbrev idT : Type := Nat × List (Int × Int) × Nat × Nat
abbrev PS : Type := (Nat → List tm) × ((Nat → Int) × Nat) × (Int × Int × Int × Int) × Option idT × List Int
def mIdo (S : MS) (i : Option idT) : Prop := (i = none ∧ S.1 41 = iI 0 ∧ S.1 37 = iI 0 ∧ S.1 39 = iI 0) ∨ ∃ e C p l, i = some (e, C, p, l) ∧ mIdn S e C p l ∧ sdsOk e C ∧ l < 64
def cIdo (S : CS) (N : NM) (i : Option idT) : Prop := (i = none ∧ S.1.1 7 = none ∧ S.1.2 9 = iI 0 ∧ S.1.2 10 = iI 0) ∨ ∃ e C p l, i = some (e, C, p, l) ∧ cIdn S N e C p l
/-- the model stands for σ -/
def mRs (σ : PS) (S : MS) : Prop := mForms S σ.1 ∧ mTp S σ.2.1.1 σ.2.1.2 ∧ (S.1 4 = iI σ.2.2.1.1 ∧ S.1 5 = iI σ.2.2.1.2.1 ∧ S.1 6 = iI σ.2.2.1.2.2.1 ∧ S.1 7 = iI σ.2.2.1.2.2.2) ∧ mLaid S σ.1 ∧ mUnl S σ.1 ∧ mIdo S σ.2.2.2.1 ∧ mShown S σ.2.2.2.2
/-- the component stands for σ -/
def cRt (K : Nat → Nat → Nat) (a : Nat → Nat) (σ : PS) (ch : List Nat) (S : CS) (N : NM) : Prop := cL K a S N ∧ cSlots K S N σ.1 ∧ cTape S σ.2.1.1 σ.2.1.2 ∧ cLaid K S N ∧ cUnl K S N ∧ fL N ch (S.1.1 11) σ.2.2.1.1 σ.2.2.1.2.1 σ.2.2.1.2.2.1 σ.2.2.1.2.2.2 ∧ cIdo S N σ.2.2.2.1 ∧ cShw K a S N σ.2.2.2.2
def cRs (K : Nat → Nat → Nat) (a : Nat → Nat) (σ : PS) (ch : List Nat) (N : NM) : Prop := (∀ s, s < 4 → vF (σ.1 s)) → ∃ S, cRt K a σ ch S N
def mE (S S' : MS) : Prop := S'.1 3 = S.1 3 ∧ S'.1 4 = S.1 4 ∧ S'.1 5 = S.1 5 ∧ S'.1 6 = S.1 6 ∧ S'.1 7 = S.1 7 ∧ S'.1 37 = S.1 37 ∧ S'.1 39 = S.1 39 ∧ S'.1 41 = S.1 41 ∧ S'.1 49 = S.1 49 ∧ S'.2.2.1 0 = S.2.2.1 0 ∧ S'.2.2.1 1 = S.2.2.1 1 ∧ S'.2.2.1 2 = S.2.2.1 2 ∧ S'.2.2.1 33 = S.2.2.1 33 ∧ S'.2.2.1 34 = S.2.2.1 34 ∧ S'.2.2.1 35 = S.2.2.1 35 ∧ S'.2.2.1 48 = S.2.2.1 48
theorem mUnl.rd {S S' : MS} {F : Nat → List tm} (h : mUnl S F) (a : S'.1 23 = S.1 23) (b : S'.2.2.2 24 = S.2.2.2 24) : mUnl S' F := by
  unfold mUnl at *
  rw [a, b]; exact h
theorem mIdo.kept {S S' : MS} {i : Option idT} (h : mIdo S i) (k : keptI S S') : mIdo S' i := by
  obtain ⟨k1, k2, k3, k4, k5⟩ := k
  rcases h with ⟨h1, h2, h3, h4⟩ | ⟨e, C, p, l, h1, ⟨g1, g2, g3, g4, g5, g6⟩, h3, h4⟩
  · exact Or.inl ⟨h1, by rw [k1]; exact h2, by rw [k2]; exact h3, by rw [k3]; exact h4⟩
  · refine Or.inr ⟨e, C, p, l, h1, ⟨by rw [k1]; exact g1, by rw [k2]; exact g2, by rw [k3]; exact g3, by rw [k4 0 (by omega)]; exact g4, by rw [k4 1 (by omega)]; exact g5, fun i c hc => ?_⟩, h3, h4⟩
    have hi : i < 900 := by
      have := (List.getElem?_eq_some_iff.mp hc).1
      have := h3.2.1
      omega
    rw [(k5 i hi).1, (k5 i hi).2]
    exact g6 i c hc
theorem mShown.eq {S S' : MS} {L : List Int} (h : mShown S L) (a : S'.1 49 = S.1 49) (b : S'.2.2.1 48 = S.2.2.1 48) : mShown S' L := by
  unfold mShown at *
  rw [a, b]; exact h
theorem mTp.eq {S S' : MS} {T : Nat → Int} {n : Nat} (h : mTp S T n) (a : S'.1 3 = S.1 3) (b : S'.2.2.1 2 = S.2.2.1 2) : mTp S' T n := by
  unfold mTp at *
  rw [a, b]; exact h
theorem mRs.laid {σ : PS} {S S' : MS} (h : mRs σ S) (e : mE S S') (e23 : S'.1 23 = S.1 23) (e24 : S'.2.2.2 24 = S.2.2.2 24) (l : mLaid S' σ.1) : mRs σ S' := by
  obtain ⟨h1, h2, ⟨h4, h5, h6, h7⟩, h8, h9, h10, h11⟩ := h
  obtain ⟨e3, e4, e5, e6, e7, e37, e39, e41, e49, a0, a1, a2, a33, a34, a35, a48⟩ := e
  exact ⟨h1.told (fun q _ => by rw [a0]) (fun q _ => by rw [a1]), h2.eq e3 a2, ⟨by rw [e4]; exact h4, by rw [e5]; exact h5, by rw [e6]; exact h6, by rw [e7]; exact h7⟩, l, h9.rd e23 e24, h10.kept ⟨e41, e37, e39, fun q _ => by rw [a35], fun q _ => ⟨by rw [a33], by rw [a34]⟩⟩, h11.eq e49 a48⟩
theorem mRs.unl {σ : PS} {S S' : MS} (h : mRs σ S) (e : mE S S') (l : mLaid S' σ.1) (u : mUnl S' σ.1) : mRs σ S' := by
  obtain ⟨h1, h2, ⟨h4, h5, h6, h7⟩, h8, h9, h10, h11⟩ := h
  obtain ⟨e3, e4, e5, e6, e7, e37, e39, e41, e49, a0, a1, a2, a33, a34, a35, a48⟩ := e
  exact ⟨h1.told (fun q _ => by rw [a0]) (fun q _ => by rw [a1]), h2.eq e3 a2, ⟨by rw [e4]; exact h4, by rw [e5]; exact h5, by rw [e6]; exact h6, by rw [e7]; exact h7⟩, l, u, h10.kept ⟨e41, e37, e39, fun q _ => by rw [a35], fun q _ => ⟨by rw [a33], by rw [a34]⟩⟩, h11.eq e49 a48⟩
theorem mE.of {S S' : MS} (h : ∀ k, (k < 8 ∨ 36 < k) → k ≠ 44 → S'.1 k = S.1 k) (g : ∀ k, (k < 3 ∨ (32 < k ∧ k < 36) ∨ k = 48) → S'.2.2.1 k = S.2.2.1 k) : mE S S' :=
  ⟨h 3 (by omega) (by omega), h 4 (by omega) (by omega), h 5 (by omega) (by omega), h 6 (by omega) (by omega), h 7 (by omega) (by omega), h 37 (by omega) (by omega), h 39 (by omega) (by omega), h 41 (by omega) (by omega), h 49 (by omega) (by omega), g 0 (by omega), g 1 (by omega), g 2 (by omega), g 33 (by omega), g 34 (by omega), g 35 (by omega), g 48 (by omega)⟩
theorem mRs.ul {σ : PS} {S S' : MS} (h : mRs σ S) (e : ulEq S S') (l : mLaid S' σ.1) (u : mUnl S' σ.1) : mRs σ S' :=
  h.unl (mE.of (fun k a b => e.2.1 k (by omega) (by omega) (by omega)) (fun k a => e.2.2.1 k (by omega) (by omega) (by omega))) l u
theorem mRs.tr {σ : PS} {S S' : MS} (h : mRs σ S) (e : tr5 S S') : mRs σ S' :=
  h.unl (mE.of (fun k a b => e.2.1 k (by omega)) (fun k a => e.2.2.1 k (by omega) (by omega))) (h.2.2.2.1.rd (e.2.1 21 (by omega)) (e.2.2.2 22 (by omega))) (h.2.2.2.2.1.rd (e.2.1 23 (by omega)) (e.2.2.2 24 (by omega)))
section
variable {K : Nat → Nat → Nat} {a : Nat → Nat} {S : CS} {N : NM}
theorem fL.kp {ch : List Nat} {lat : Option Nat} {k pl o i : Int} (hL : cL K a S N) (h : fL N ch lat k pl o i) {N' : NM} (hk : kp a N N') : fL N' ch lat k pl o i := by
  rcases h with h | ⟨y, h1, h2, r, h3, h4, h5⟩
  · exact Or.inl h
  · refine Or.inr ⟨y, h1, h2, r, h3, hk y _ h4 (hL.out h4 rfl), ?_⟩
    rcases h5 with ⟨h5, f1, f2, f3, f4, g, h6⟩ | ⟨u, f1, f2, f3, f4, g, h5, h6, h7⟩
    · exact Or.inl ⟨h5, f1, f2, f3, f4, g, hk r _ h6 (hL.out h6 rfl)⟩
    · exact Or.inr ⟨u, f1, f2, f3, f4, g, h5, hk r _ h6 (hL.out h6 rfl), hk u _ h7 (hL.out h7 rfl)⟩
theorem cIdn.kp {e : Nat} {C : List (Int × Int)} {p l : Nat} (hL : cL K a S N) (h : cIdn S N e C p l) {S' : CS} {N' : NM} (hk : kp a N N') (e7 : S'.1.1 7 = S.1.1 7) (e8 : S'.1.1 8 = S.1.1 8) (e9 : S'.1.2 9 = S.1.2 9) (e10 : S'.1.2 10 = S.1.2 10) : cIdn S' N' e C p l := by
  obtain ⟨h1, h2, ql, qr, h3, h4, h5, h6⟩ := h
  have kk : ∀ z c fs, N z = some (eO c fs) → c ≠ 1 → N' z = some (eO c fs) := fun z c fs hz hc => hk z _ hz (hL.out hz (by
    match c, hc with
    | 0, _ => rfl
    | 1, hc => exact absurd rfl hc
    | c + 2, _ => rfl))
  exact ⟨by rw [e9]; exact h1, by rw [e10]; exact h2, ql, qr, by rw [e7]; exact h3, by rw [e8]; exact h4, cSm.keep kk 200 ql _ h5, cSm.keep kk 200 qr _ h6⟩
theorem cIdo.kp {i : Option idT} (hL : cL K a S N) (h : cIdo S N i) {S' : CS} {N' : NM} (hk : kp a N N') (e7 : S'.1.1 7 = S.1.1 7) (e8 : S'.1.1 8 = S.1.1 8) (e9 : S'.1.2 9 = S.1.2 9) (e10 : S'.1.2 10 = S.1.2 10) : cIdo S' N' i := by
  rcases h with ⟨h1, h2, h3, h4⟩ | ⟨e, C, p, l, h1, h2⟩
  · exact Or.inl ⟨h1, by rw [e7]; exact h2, by rw [e9]; exact h3, by rw [e10]; exact h4⟩
  · exact Or.inr ⟨e, C, p, l, h1, h2.kp hL hk e7 e8 e9 e10⟩
theorem cRt.Q {σ : PS} {ch : List Nat} {S' : CS} {N' : NM} (h : cRt K a σ ch S N) (q : cQ K a S N S' N') : cRt K a σ ch S' N' := by
  obtain ⟨h1, h2, h3, h4, h5, h6, h7, h8⟩ := h
  obtain ⟨q1, q2, q3, q4, q5, q6, q7, q8⟩ := q
  refine ⟨q1, h2.kp h1 q2 q5, ?_, q7, q8, ?_, h7.kp h1 q2 (q4 7 (by omega) (by omega) (by omega)) (q4 8 (by omega) (by omega) (by omega)) (by rw [q3]) (by rw [q3]), h8.kp h1 q2 (q4 17 (by omega) (by omega) (by omega))⟩
  · unfold cTape at *
    rw [q3, q6]; exact h3
  · rw [q4 11 (by omega) (by omega) (by omega)]
    exact h6.kp h1 q2
theorem five_ex (y0 y1 y2 y3 y4 : Int32) : ∃ y : Nat → Int, (∀ j, j < 5 → i32 (y j)) ∧ y0 = iI (y 0) ∧ y1 = iI (y 1) ∧ y2 = iI (y 2) ∧ y3 = iI (y 3) ∧ y4 = iI (y 4) := by
  obtain ⟨a0, e0, h0⟩ := i32_ex y0
  obtain ⟨a1, e1, h1⟩ := i32_ex y1
  obtain ⟨a2, e2, h2⟩ := i32_ex y2
  obtain ⟨a3, e3, h3⟩ := i32_ex y3
  obtain ⟨a4, e4, h4⟩ := i32_ex y4
  refine ⟨fun j => match j with | 0 => a0 | 1 => a1 | 2 => a2 | 3 => a3 | _ => a4, fun j hj => ?_, e0, e1, e2, e3, e4⟩
  match j, hj with
  | 0, _ => exact h0
  | 1, _ => exact h1
  | 2, _ => exact h2
  | 3, _ => exact h3
  | 4, _ => exact h4
  | j + 5, hj => omega
theorem c_greed2 {post : Int32 → NM → Prop} {MC MS : Nat} {S : CS} {N : NM} {F : Nat → List tm} {z n i : Int} (hL : cL K a S N) (hF : cSlots K S N F) (hz : i32 z) (hn : i32 n) (hi : i32 i) (hMC : 3 ≤ MC) (hMS : 210 ≤ MS)
    (h0 : ¬ (0 ≤ z ∧ z ≤ 3 ∧ F z.toNat ≠ [] ∧ -3000 ≤ n ∧ n ≤ 3000 ∧ -1 ≤ i ∧ i < (F z.toNat).length) → post (iI (-100000)) N) (h1 : ∀ s : Nat, s < 4 → z = s → F s ≠ [] → -3000 ≤ n → n ≤ 3000 → -1 ≤ i → i < (F s).length → post (iI (greedR (F s) n i 0)) N) : wX0_greed K post MC MS N (a 0) (iI z) (iI n) (iI i) := by
  unfold wX0_greed
  refine ⟨_, _, _, _, _, _, _, _, _, _, _, _, _, _, _, _, _, _, _, hL.obj, 3, 210, hMC, hMS, c_at hL hF hz (by omega) (by omega) (fun hq => ⟨fun _ => h0 (fun w => hq ⟨w.1, w.2.1, w.2.2.1⟩), fun _ e => by cases e⟩) (fun s q hs e hne hq hf hv => ⟨fun e => (by cases e), fun _ ea => ?_⟩)⟩
  cases ea
  subst e
  have hf' := hf
  obtain ⟨y, f, f1, f2, f3⟩ := hf'
  have h5 := hv.1
  rw [show ((s : Int)).toNat = s by omega] at h0
  refine c_isNumber hn (fun n1 n2 => b_f (by decide) ⟨_, f1, c_many0 hf ?_⟩) (fun hc => b_t rfl (h0 (fun w => hc ⟨w.2.2.2.1, w.2.2.2.2.1⟩)))
  rw [show iI ((F s).length : Int) - 1 = iI (((F s).length : Int) - 1) from iI_sub _ 1, iI_l hi.1 hi.2, iI_l (z := ((F s).length : Int) - 1) (by omega) (by omega)]
  refine c_isIn (b := -1) (by omega) (by omega) (by omega) (fun c1 c2 => b_f (by decide) ⟨(F s).length + 1, ?_⟩) (fun c => b_t rfl (h0 (fun w => c ⟨w.2.2.2.2.2.1, by omega⟩)))
  rw [iI_l hn.1 hn.2]
  exact c_greed_49 hf hv hi (F s).length 0 n (by omega) (by omega) (by omega) (h1 s hs rfl hne n1 n2 c1 (by omega))
end
theorem m_greed2 {post : Int32 → MS → Prop} {S : MS} {F : Nat → List tm} {a n i : Int} (hF : mForms S F) (ha : i32 a) (hn : i32 n) (hi : i32 i)
    (h0 : ¬ (0 ≤ a ∧ a ≤ 3 ∧ F a.toNat ≠ [] ∧ -3000 ≤ n ∧ n ≤ 3000 ∧ -1 ≤ i ∧ i < (F a.toNat).length) → post (iI (-100000)) S) (h1 : ∀ s : Nat, s < 4 → a = s → F s ≠ [] → -3000 ≤ n → n ≤ 3000 → -1 ≤ i → i < (F s).length → post (iI (greedR (F s) n i 0)) S) : wX1_greed post S (iI a) (iI n) (iI i) := by
  unfold wX1_greed wX1_greed_33
  refine m_isForm hF ha (fun s hs e hne => b_f (by decide) ?_) (fun hc => b_t rfl (h0 (fun z => hc ⟨z.1, z.2.1, z.2.2.1⟩)))
  refine m_isN hn (fun n1 n2 => b_f (by decide) ?_) (fun hc => b_t rfl (h0 (fun z => hc (by omega))))
  subst e
  have hfin : -1 ≤ i → i < (F s).length → ∃ k, wX1_greed_40 post k (iI s) (iI i) ((iI n).toInt64) 0 S := by
    intro i1 i2
    rw [iI_l hn.1 hn.2]
    refine ⟨(F s).length + 1, m_greed_40 hF hs hi (F s).length 0 n (by omega) (by omega) (by omega) ?_⟩
    rw [List.drop_zero]
    exact h1 s hs rfl hne n1 n2 i1 i2
  have hp : (F s).length ≠ 0 := fun z => hne (List.eq_nil_of_length_eq_zero z)
  refine ⟨fun e => ?_, fun e => ?_⟩
  · simp (disch := omega) only [iLit, lLit, iI_add, iI_sub, iI_mul, iI_neg, lI_add, lI_sub, lI_mul, lI_neg, nI_i, lI_i, iI_eq] at e
    exact hfin (by omega) (by omega)
  refine m_isTerm hF ha hi (fun s' j t hs' e1 e2 ht hj => b_f (by decide) (hfin (by omega) (by
    have e1 : s = s' := by omega
    subst e1
    have := (List.getElem?_eq_some_iff.mp ht).1
    omega))) (fun hc => b_t rfl (h0 (fun z => ?_)))
  simp (disch := omega) only [iLit, lLit, iI_add, iI_sub, iI_mul, iI_neg, lI_add, lI_sub, lI_mul, lI_neg, nI_i, lI_i, iI_eq] at e
  exact hc ⟨z.1, z.2.1, by omega, z.2.2.2.2.2.2⟩
