set_option maxRecDepth 100000
set_option maxHeartbeats 4000000
/-! numbers are written with their first ways -/
def wrV : List Int → Nat → List Int
  | [], _ => []
  | y :: ys, i => (if i = 0 then 61 else 44) :: (numS y ++ wrV ys (i + 1))
def wrN (ts : List tm) (n : Int) : List Int := numS n ++ ((if 0 < Wy ts n then wrV (fnd ts 0 n) 0 else wL 8) ++ [59])
def wrS (ts : List tm) : Nat → Int → List Int
  | 0, _ => []
  | m + 1, n => wrN ts n ++ wrS ts m (n + 1)
theorem fnd_in : ∀ (ts : List tm) (k n : Int), (∀ t ∈ ts, vT t) → 0 ≤ k → k < Wy ts n → ∀ y ∈ fnd ts k n, -3001 ≤ y ∧ y ≤ 3001
  | [], _, _, _, _, _, y, hy => by cases hy
  | t :: ts, k, n, hv, hk, hkW, y, hy => by
    have ht := hv t List.mem_cons_self
    have hlo := ht.lo
    rw [fnd_cons] at hy
    rw [Wy_cons] at hkW
    have e : (fun x => Wy ts (n - t.1 * kV t.2.1 x)) = fun x => Wy ts (n - tv t x) := rfl
    rw [e] at hkW
    have ok := srch_ok (fun x => Wy ts (n - tv t x)) t.2.2.2 (t.2.2.2 - t.2.2.1 + 1).toNat t.2.2.1 k (by omega) hk hkW
    rcases List.mem_cons.mp hy with q | q
    · omega
    · exact fnd_in ts _ _ (fun u hu => hv u (List.mem_cons_of_mem _ hu)) ok.2.2.1 ok.2.2.2 y q
theorem wrV_len : ∀ (ys : List Int) (i : Nat), (wrV ys i).length ≤ 6 * ys.length
  | [], _ => Nat.le_refl _
  | y :: ys, i => by
    have h1 := wrV_len ys (i + 1)
    have h2 := numS_len y
    show (numS y ++ wrV ys (i + 1)).length + 1 ≤ 6 * (ys.length + 1)
    rw [List.length_append]; omega
theorem wrN_len {ts : List tm} (h : ts.length ≤ 5) (n : Int) : (wrN ts n).length ≤ 36 := by
  unfold wrN
  have h1 := numS_len n
  have h2 := wrV_len (fnd ts 0 n) 0
  rw [fnd_len] at h2
  have h8 := (wL_len 8 (by omega)).2
  rw [List.length_append, List.length_append]
  split
  · simp only [List.length_cons, List.length_nil]; omega
  · simp only [List.length_cons, List.length_nil]; omega
/-- what writing changes -/
def wtEq (S S' : MS) : Prop := S'.2.1 = S.2.1 ∧ (∀ k, k ≠ 22 → S'.2.2.2 k = S.2.2.2 k) ∧ (∀ k, k ≠ 21 → k ≠ 49 → S'.1 k = S.1 k) ∧ ∀ k, k ≠ 30 → k ≠ 48 → S'.2.2.1 k = S.2.2.1 k
theorem wtEq.trans {S S' S'' : MS} (h : wtEq S S') (g : wtEq S' S'') : wtEq S S'' := ⟨g.1.trans h.1, fun k a => (g.2.1 k a).trans (h.2.1 k a), fun k a b => (g.2.2.1 k a b).trans (h.2.2.1 k a b), fun k a b => (g.2.2.2 k a b).trans (h.2.2.2 k a b)⟩
theorem shEq.wt {S S' : MS} (h : shEq S S') : wtEq S S' := ⟨h.1, fun k _ => by rw [h.2.1], fun k _ b => h.2.2.1 k b, fun k _ b => h.2.2.2 k b⟩
theorem wtEq.LS {S : MS} (s : Nat) (g : Nat → Int64) : wtEq S (mLS S s g) := ⟨rfl, fun k a => up_ne _ _ _ a, fun k a _ => up_ne _ _ _ a, fun _ _ _ => rfl⟩
theorem wtEq.A {S : MS} (f : Nat → Int32) : wtEq S (mA S 30 f) := ⟨rfl, fun _ _ => rfl, fun _ _ _ => rfl, fun k a _ => up_ne _ _ _ a⟩
theorem wtEq.forms {S S' : MS} {F : Nat → List tm} (h : wtEq S S') (hF : mForms S F) : mForms S' F := by
  intro s hs
  rw [h.2.2.2 0 (by omega) (by omega), h.2.2.2 1 (by omega) (by omega)]
  exact hF s hs
theorem mShown.of {S S' : MS} {L : List Int} (h : mShown S L) (a : S'.1 49 = S.1 49) (b : S'.2.2.1 48 = S.2.2.1 48) : mShown S' L := ⟨h.1, by rw [a]; exact h.2.1, fun k c hk => by rw [b]; exact h.2.2 k c hk⟩
theorem m_wr_60 {K34 : Int32 → Int32 → Int32 → MS → Prop} {post : Int32 → MS → Prop} {S0 : MS} {F : Nat → List tm} {s : Nat} {x3 x4 : Int32} {ys : List Int} (hF : mForms S0 F) (hs : s < 4) (hy5 : ys.length = (F s).length) (hy : ∀ y ∈ ys, -3001 ≤ y ∧ y ≤ 3001) (hf : ∀ (j : Nat) (y : Int), ys[j]? = some y → S0.2.2.1 30 j = iI y) : ∀ (m i : Nat) (L : List Int) (S : MS), i + m = (F s).length → shEq S0 S → mShown S L → L.length + 6 * m + 1 ≤ 3000 → (∀ S', shEq S0 S' → mShown S' (L ++ (wrV (ys.drop i) i ++ [59])) → K34 (iI s) x3 (x4 + (1 : Int32)) S') → wX1_write_60 K34 post (m + 1) (iI s) x3 x4 (iI i) S := by
  obtain ⟨e0, hv, -⟩ := hF s hs
  have h5 := hv.1
  intro m
  induction m with
  | zero =>
    intro i L S hi hS hL hl h
    unfold wX1_write_60
    refine ⟨iI_in (by omega) (by omega) (by omega), b_t ?_ ?_⟩
    · rw [nat_i (by omega), hS.2.2.2 0 (by omega), e0, iI_le (by omega) (by omega) (by omega) (by omega)]; omega
    · rw [List.drop_of_length_le (by omega)] at h
      unfold wX1_write_114
      exact m_says (c := 59) hL (by omega) (fun S1 e1 l1 => h S1 (hS.trans e1) l1)
  | succ m ih =>
    intro i L S hi hS hL hl h
    obtain ⟨y, hyi⟩ : ∃ y, ys[i]? = some y := ⟨_, List.getElem?_eq_getElem (by omega)⟩
    have hd : ys.drop i = y :: ys.drop (i + 1) := by
      obtain ⟨h1, h2⟩ := List.getElem?_eq_some_iff.mp hyi
      rw [← h2]; exact List.drop_eq_getElem_cons h1
    rw [hd] at h
    unfold wrV at h
    have hyb := hy y (List.mem_of_getElem? hyi)
    have hn := numS_len y
    have run : ∀ c : Int, c = (if i = 0 then 61 else 44) → wX1_write_84 K34 (fun x1 x3 x4 x5 S => wX1_write_60 K34 post (m + 1) x1 x3 x4 x5 S) post (iI s) x3 x4 (iI i) (iI c) S := fun c hc => by
      unfold wX1_write_84
      refine m_says hL (by omega) (fun S1 e1 l1 => ⟨iI_in (by omega) (by omega) (by omega), ?_⟩)
      rw [nat_i (by omega), (hS.trans e1).2.2.2 30 (by omega), hf i y hyi]
      refine m_saysNumber (by omega) l1 (by rw [len1]; omega) (fun S2 e2 l2 => ?_)
      rw [show iI (i : Int) + 1 = iI ((i + 1 : Nat) : Int) from iI_add i 1]
      refine ih (i + 1) _ S2 (by omega) ((hS.trans e1).trans e2) l2 (by rw [List.length_append, len1]; omega) (fun S3 e3 l3 => h S3 e3 ?_)
      rw [← hc]
      simp only [List.append_assoc, List.cons_append, List.nil_append] at l3 ⊢
      exact l3
    unfold wX1_write_60
    refine ⟨iI_in (by omega) (by omega) (by omega), b_f ?_ ?_⟩
    · rw [nat_i (by omega), hS.2.2.2 0 (by omega), e0, iI_le (by omega) (by omega) (by omega) (by omega)]; omega
    · rw [show (0 : Int32) = iI 0 from rfl, iI_eq (by omega) (by omega) (by omega) (by omega)]
      exact ⟨fun q => run 61 (by rw [if_pos (by omega)]), fun q => run 44 (by rw [if_neg (by omega)])⟩
theorem m_wr_34 {post : Int32 → MS → Prop} {S0 : MS} {F : Nat → List tm} {s : Nat} {y : Int} (hF : mForms S0 F) (hs : s < 4) (hne : F s ≠ []) (hy : y ≤ 3000) : ∀ (m : Nat) (n : Int) (L : List Int) (S : MS), n + m = y + 1 → -3000 ≤ n → m ≤ 60 → wtEq S0 S → mLaid S F → mShown S L → L.length + 36 * m ≤ 3000 → (∀ S', wtEq S0 S' → mLaid S' F → mShown S' (L ++ wrS (F s) m n) → post (iI ((L ++ wrS (F s) m n).length : Nat)) S') → wX1_write_34 post (m + 1) (iI s) (iI y) (iI n) S := by
  obtain ⟨e0, hv, -⟩ := hF s hs
  have h5 := hv.1
  intro m
  induction m with
  | zero =>
    intro n L S hn hn0 hm hS hLd hL hl h
    unfold wX1_write_34
    refine b_t (by simp (disch := omega) only [iLit, lLit, iI_add, iI_sub, iI_mul, iI_neg, lI_add, lI_sub, lI_mul, lI_neg, nI_i, lI_i, iI_l, iI_nat, iI_lt, iI_le, iI_eq, lI_lt, lI_le, lI_eq] <;> omega) ?_
    unfold wrS at h
    rw [List.append_nil] at h
    rw [hL.2.1]
    exact h S hS hLd hL
  | succ m ih =>
    intro n L S hn hn0 hm hS hLd hL hl h
    unfold wrS at h
    have hwl := wrN_len h5 n
    have hnl := numS_len n
    have h8 := (wL_len 8 (by omega)).2
    have nx : ∀ S', wtEq S0 S' → mLaid S' F → mShown S' (L ++ wrN (F s) n) → wX1_write_34 post (m + 1) (iI s) (iI y) (iI n + (1 : Int32)) S' := fun S' a b c => by
      rw [show iI n + (1 : Int32) = iI (n + 1) from iI_add n 1]
      refine ih (n + 1) _ S' (by omega) (by omega) (by omega) a b c (by rw [List.length_append]; omega) (fun S2 a2 b2 c2 => ?_)
      have h' := h S2 a2 b2
      rw [List.append_assoc] at c2 ⊢
      exact h' c2
    unfold wX1_write_34
    refine b_f (by simp (disch := omega) only [iLit, lLit, iI_add, iI_sub, iI_mul, iI_neg, lI_add, lI_sub, lI_mul, lI_neg, nI_i, lI_i, iI_l, iI_nat, iI_lt, iI_le, iI_eq, lI_lt, lI_le, lI_eq] <;> omega) ?_
    refine m_saysNumber (by omega) hL (by omega) (fun S1 e1 l1 => ?_)
    have hS1 := hS.trans e1.wt
    refine m_finds (k := 0) (hS1.forms hF) (e1.laid hLd) hs hne (by omega) (by omega) (fun g hg hc => b_t rfl ?_) (fun g f hg h0 hk hf => b_f (by decide) ?_)
    · have hS2 := hS1.trans (wtEq.LS s g)
      refine m_saysWord (by omega) (mShown.of l1 rfl rfl) (by rw [List.length_append]; omega) (fun S2 e2 l2 => ?_)
      unfold wX1_write_114
      refine m_says (c := 59) l2 (by rw [List.length_append, List.length_append]; omega) (fun S3 e3 l3 => nx S3 ((hS2.trans e2.wt).trans e3.wt) (e3.laid (e2.laid (mLS_laid hs hne hg))) ?_)
      unfold wrN
      rw [if_neg (by omega)]
      simp only [List.append_assoc] at l3 ⊢
      exact l3
    · have hS2 := (hS1.trans (wtEq.LS s g)).trans (wtEq.A f)
      refine ⟨(F s).length + 1, ?_⟩
      have hfl := fnd_len (F s) 0 n
      refine m_wr_60 (S0 := mA (mLS S1 s g) 30 f) (ys := fnd (F s) 0 n) (hS2.forms hF) hs hfl (fnd_in (F s) 0 n hv.2 h0 hk) (fun j y hj => by rw [mA_at]; exact hf j y hj) (F s).length 0 _ _ (by omega) (shEq.refl _) (mShown.of l1 rfl rfl) (by rw [List.length_append]; omega) (fun S3 e3 l3 => nx S3 (hS2.trans e3.wt) (e3.laid (mLaid.rd (S := mLS S1 s g) (mLS_laid hs hne hg) rfl rfl)) ?_)
      unfold wrN
      rw [if_pos hk]
      rw [List.drop_zero] at l3
      simp only [List.append_assoc] at l3 ⊢
      exact l3
theorem m_write {post : Int32 → MS → Prop} {S : MS} {F : Nat → List tm} {a x y : Int} (hF : mForms S F) (hL : mLaid S F) (ha : i32 a) (hx : i32 x) (hy : i32 y) (h0 : ¬ (0 ≤ a ∧ a ≤ 3 ∧ F a.toNat ≠ [] ∧ -3000 ≤ x ∧ x ≤ y ∧ y ≤ 3000 ∧ y - x < 60) → post (iI (-1)) S) (h1 : ∀ (s : Nat) (S' : MS), s < 4 → a = s → F s ≠ [] → -3000 ≤ x → x ≤ y → y ≤ 3000 → y - x < 60 → wtEq S S' → mLaid S' F → mShown S' (wrS (F s) (y - x + 1).toNat x) → post (iI ((wrS (F s) (y - x + 1).toNat x).length : Nat)) S') : wX1_write post S (iI a) (iI x) (iI y) := by
  unfold wX1_write
  refine m_isForm hF ha (fun s hs e hne => b_f (by decide) ?_) (fun hc => b_t rfl (h0 (fun z => hc ⟨z.1, z.2.1, z.2.2.1⟩)))
  refine m_isSpan hx hy (fun n1 n2 n3 => b_f (by decide) ?_) (fun hc => b_t rfl (h0 (fun z => hc (by omega))))
  subst e
  rw [iI_sub, show (60 : Int32) = iI 60 from rfl, iI_lt (by omega) (by omega) (by omega) (by omega)]
  refine ⟨fun q => ⟨(y - x + 1).toNat + 1, ?_⟩, fun q => h0 (fun z => q z.2.2.2.2.2.2)⟩
  have e1 : shEq S (mI S 49 (0 : Int32)) := ⟨rfl, rfl, fun k a => up_ne _ _ _ a, fun _ _ => rfl⟩
  exact m_wr_34 hF hs hne n3 _ x [] (mI S 49 (0 : Int32)) (by omega) n1 (by omega) e1.wt (e1.laid hL) ⟨by simp, mI_at _ _ _, fun k c hk => by simp at hk⟩ (by simp only [List.length_nil]; omega) (fun S' e2 b2 l2 => h1 s S' hs rfl hne n1 n2 n3 q e2 b2 l2)
