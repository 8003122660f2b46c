set_option maxRecDepth 100000
set_option maxHeartbeats 4000000
/-! the model: like terms, their rounds sorted, kinds of turnings -/
def t4N (t : tm) (k : Nat) : Int := if k = 0 then t.1 else if k = 1 then t.2.1 else if k = 2 then t.2.2.1 else t.2.2.2
theorem rT4 {S : MS} {F : Nat → List tm} {s i k : Nat} {t : tm} (hF : mForms S F) (hs : s < 4) (ht : (F s)[i]? = some t) (hk : k < 4) : S.2.2.1 1 (4 * (5 * s + i) + k) = iI (t4N t k) ∧ i32 (t4N t k) := by
  obtain ⟨-, hv, hf⟩ := hF s hs
  obtain ⟨e1, e2, e3, e4⟩ := hf i t ht
  have hvt := hv.2 t (List.mem_of_getElem? ht)
  have b1 := hvt.1
  have b2 := hvt.2.1
  have b3 := hvt.2.2.1
  have b4 := hvt.2.2.2.1
  have b5 := hvt.lo
  rcases (show k = 0 ∨ k = 1 ∨ k = 2 ∨ k = 3 by omega) with e | e | e | e <;> subst e
  · exact ⟨e1, by show i32 t.1; omega⟩
  · exact ⟨e2, by show i32 t.2.1; omega⟩
  · exact ⟨e3, by show i32 t.2.2.1; omega⟩
  · exact ⟨e4, by show i32 t.2.2.2; omega⟩
theorem t4N_eq {t u : tm} (h : ∀ k, k < 4 → t4N t k = t4N u k) : t = u := by
  obtain ⟨a, b, c, d⟩ := t
  obtain ⟨a', b', c', d'⟩ := u
  have h0 : a = a' := h 0 (by omega)
  have h1 : b = b' := h 1 (by omega)
  have h2 : c = c' := h 2 (by omega)
  have h3 : d = d' := h 3 (by omega)
  subst h0 h1 h2 h3
  rfl
theorem m_areLike_3 {post : Int32 → MS → Prop} {S : MS} {F : Nat → List tm} {s a b : Nat} {t u : tm} (hF : mForms S F) (hs : s < 4) (ha : (F s)[a]? = some t) (hb : (F s)[b]? = some u) (ha5 : a < 5) (hb5 : b < 5) (h : post (if t = u then 1 else 0) S) : ∀ (m k : Nat), k + m = 4 → (∀ j, j < k → t4N t j = t4N u j) → wX1_areLike_3 post (m + 1) (iI s) (iI a) (iI b) (iI k) S := by
  intro m
  induction m with
  | zero =>
    intro k hk hj
    unfold wX1_areLike_3
    refine b_t (by simp (disch := omega) only [iLit, lLit, iI_add, iI_sub, iI_mul, iI_neg, lI_add, lI_sub, lI_mul, lI_neg, nI_i, lI_i, iI_l, iI_nat, iI_lt, iI_le, iI_eq, lI_lt, lI_le, lI_eq] <;> omega) ?_
    rw [if_pos (t4N_eq (fun j hj4 => hj j (by omega)))] at h
    exact h
  | succ m ih =>
    intro k hk hj
    unfold wX1_areLike_3
    refine b_f (by simp (disch := omega) only [iLit, lLit, iI_add, iI_sub, iI_mul, iI_neg, lI_add, lI_sub, lI_mul, lI_neg, nI_i, lI_i, iI_l, iI_nat, iI_lt, iI_le, iI_eq, lI_lt, lI_le, lI_eq] <;> omega) (m_of (by omega) ha5 (by omega) (m_of (by omega) hb5 (by omega) ?_))
    obtain ⟨e1, c1⟩ := rT4 hF hs ha (show k < 4 by omega)
    obtain ⟨e2, c2⟩ := rT4 hF hs hb (show k < 4 by omega)
    rw [e1, e2, iI_eq c1.1 c1.2 c2.1 c2.2]
    refine ⟨fun e => ?_, fun e => ?_⟩
    · have := ih (k + 1) (by omega) (fun j hj2 => by
        by_cases q : j = k
        · rw [q]; exact e
        · exact hj j (by omega))
      rw [show iI (k : Int) + 1 = iI ((k + 1 : Nat) : Int) from iI_add k 1]
      exact this
    · rw [if_neg (fun z => e (by rw [z]))] at h
      exact h
theorem m_areLike {post : Int32 → MS → Prop} {S : MS} {F : Nat → List tm} {s a b : Nat} (hF : mForms S F) (hs : s < 4) (ha : a < (F s).length) (hb : b < (F s).length) (h1 : ptL (pat (F s)) a b = true → post 1 S) (h0 : ptL (pat (F s)) a b = false → post 0 S) : wX1_areLike post S (iI s) (iI a) (iI b) := by
  have h5 := (hF s hs).2.1.1
  obtain ⟨t, ht⟩ : ∃ t, (F s)[a]? = some t := ⟨_, List.getElem?_eq_getElem ha⟩
  obtain ⟨u, hu⟩ : ∃ u, (F s)[b]? = some u := ⟨_, List.getElem?_eq_getElem hb⟩
  refine ⟨5, m_areLike_3 hF hs ht hu (by omega) (by omega) ?_ 4 0 (by omega) (fun j hj => by omega)⟩
  have hl := pat_like ht hu
  split
  · rename_i e; exact h1 (hl.mpr e)
  · rename_i e
    refine h0 ?_
    cases hp : ptL (pat (F s)) a b with
    | false => rfl
    | true => exact absurd (hl.mp hp) e
/-- lengths of rounds -/
def rLn (f : Nat → Int32) (len : Nat → Nat) : Prop := ∀ j, j < 5 → f j = iI (len j : Nat) ∧ len j ≤ 100
theorem rLn.up {f : Nat → Int32} {len : Nat → Nat} (h : rLn f len) (k v : Nat) (hv : v ≤ 100) : rLn (upd f k (iI (v : Nat))) (upN len k v) := fun j hj => by
  unfold upN
  by_cases e : j = k
  · rw [if_pos e, e, upd_eq]; exact ⟨rfl, hv⟩
  · rw [if_neg e, upd_ne _ _ _ e]; exact h j hj
theorem mForms.A {S : MS} {F : Nat → List tm} (h : mForms S F) {k : Nat} (hk : 2 ≤ k) (f : Nat → Int32) : mForms (mA S k f) F := by
  have e0 : (mA S k f).2.2.1 0 = S.2.2.1 0 := up_ne _ _ _ (by omega)
  have e1 : (mA S k f).2.2.1 1 = S.2.2.1 1 := up_ne _ _ _ (by omega)
  intro s hs
  rw [e0, e1]
  exact h s hs
theorem m_so_16 {K2 : Int32 → Int32 → MS → Prop} {post : Unit → MS → Prop} {S : MS} {F : Nat → List tm} {s a : Nat} (hF : mForms S F) (hs : s < 4) (ha : a < (F s).length) : ∀ (m b : Nat) (len : Nat → Nat) (f : Nat → Int32), b + m = (F s).length → a < b → rLn f len → (∀ f', rLn f' (soB (ptL (pat (F s))) a m b len) → K2 (iI s) (iI ((a + 1 : Nat) : Int)) (mA S 26 f')) → wX1_sorts_16 K2 post (m + 1) (iI s) (iI a) (iI b) (mA S 26 f) := by
  obtain ⟨e0, hv, -⟩ := hF s hs
  have h5 := hv.1
  intro m
  induction m with
  | zero =>
    intro b len f hb hab hl h
    unfold wX1_sorts_16
    refine ⟨iI_in (by omega) (by omega) (by omega), b_t ?_ ?_⟩
    · rw [nat_i (by omega)]
      show S.2.2.1 0 s ≤ _
      rw [e0, iI_le (by omega) (by omega) (by omega) (by omega)]; omega
    · rw [show iI (a : Int) + 1 = iI ((a + 1 : Nat) : Int) from iI_add a 1]
      exact h f hl
  | succ m ih =>
    intro b len f hb hab hl h
    unfold wX1_sorts_16
    refine ⟨iI_in (by omega) (by omega) (by omega), b_f ?_ ?_⟩
    · rw [nat_i (by omega)]
      show ¬ S.2.2.1 0 s ≤ _
      rw [e0, iI_le (by omega) (by omega) (by omega) (by omega)]; omega
    · unfold soB at h
      have nx : ∀ (len' : Nat → Nat) (f' : Nat → Int32), rLn f' len' → len' = (if ptL (pat (F s)) a b = true ∧ len a < len b then upN (upN len a (len b)) b (len a) else len) → wX1_sorts_16 K2 post (m + 1) (iI s) (iI a) (iI b + 1) (mA S 26 f') := fun len' f' hl' e => by
        rw [show iI (b : Int) + 1 = iI ((b + 1 : Nat) : Int) from iI_add b 1]
        rw [← e] at h
        exact ih (b + 1) len' f' (by omega) (by omega) hl' h
      obtain ⟨la, la2⟩ := hl a (by omega)
      obtain ⟨lb, lb2⟩ := hl b (by omega)
      refine m_areLike (hF.A (by omega) f) hs ha (by omega) (fun hp => b_f (by decide) ?_) (fun hp => b_t rfl ?_)
      · refine ⟨iI_in (by omega) (by omega) (by omega), iI_in (by omega) (by omega) (by omega), ?_⟩
        rw [nat_i (by omega), nat_i (by omega), mA_at, la, lb, iI_lt (by omega) (by omega) (by omega) (by omega)]
        refine ⟨fun e => ⟨iI_in (by omega) (by omega) (by omega), iI_in (by omega) (by omega) (by omega), iI_in (by omega) (by omega) (by omega), iI_in (by omega) (by omega) (by omega), ?_⟩, fun e => ?_⟩
        · unfold wX1_sorts_82
          rw [mA_mA, mA_mA]
          exact nx _ _ ((hl.up a (len b) lb2).up b (len a) la2) (by rw [if_pos ⟨hp, by omega⟩])
        · unfold wX1_sorts_82
          exact nx _ _ hl (by rw [if_neg (fun z => e (by omega))])
      · unfold wX1_sorts_82
        exact nx _ _ hl (by rw [if_neg (fun z => by rw [hp] at z; cases z.1)])
theorem m_so_2 {post : Unit → MS → Prop} {S : MS} {F : Nat → List tm} {s : Nat} (hF : mForms S F) (hs : s < 4) : ∀ (m a : Nat) (len : Nat → Nat) (f : Nat → Int32), a + m = (F s).length → rLn f len → (∀ f', rLn f' (soA (ptL (pat (F s))) (F s).length m a len) → post () (mA S 26 f')) → wX1_sorts_2 post (m + 1) (iI s) (iI a) (mA S 26 f) := by
  obtain ⟨e0, hv, -⟩ := hF s hs
  have h5 := hv.1
  intro m
  induction m with
  | zero =>
    intro a len f ha hl h
    unfold wX1_sorts_2
    refine ⟨iI_in (by omega) (by omega) (by omega), b_t ?_ (h f hl)⟩
    rw [nat_i (by omega)]
    show S.2.2.1 0 s ≤ _
    rw [e0, iI_le (by omega) (by omega) (by omega) (by omega)]; omega
  | succ m ih =>
    intro a len f ha hl h
    unfold wX1_sorts_2
    refine ⟨iI_in (by omega) (by omega) (by omega), b_f ?_ ?_⟩
    · rw [nat_i (by omega)]
      show ¬ S.2.2.1 0 s ≤ _
      rw [e0, iI_le (by omega) (by omega) (by omega) (by omega)]; omega
    · unfold soA at h
      refine ⟨(F s).length - (a + 1) + 1, ?_⟩
      rw [show iI (a : Int) + 1 = iI ((a + 1 : Nat) : Int) from iI_add a 1]
      exact m_so_16 hF hs (by omega) _ (a + 1) len f (by omega) (by omega) hl (fun f' hl' => ih (a + 1) _ f' (by omega) hl' h)
theorem m_sorts {post : Unit → MS → Prop} {S : MS} {F : Nat → List tm} {s : Nat} {len : Nat → Nat} (hF : mForms S F) (hs : s < 4) (hl : rLn (S.2.2.1 26) len) (h : ∀ f', rLn f' (soA (ptL (pat (F s))) (F s).length (F s).length 0 len) → post () (mA S 26 f')) : wX1_sorts post S (iI s) := by
  refine ⟨(F s).length + 1, ?_⟩
  have := m_so_2 (post := post) hF hs (F s).length 0 len (S.2.2.1 26) (by omega) hl h
  rw [mA_id] at this
  exact this
/-- kinds of turnings: the lengths of their rounds, how often they come -/
def mKs (S : MS) (ks : tks) : Prop := ks.length ≤ 8 ∧ S.1 29 = iI (ks.length : Nat) ∧ (∀ k x, ks[k]? = some x → x.1.length = 5 ∧ (∀ j, j < 5 → S.2.2.1 27 (5 * k + j) = iI (x.1.getD j 0 : Nat) ∧ x.1.getD j 0 ≤ 100) ∧ S.2.2.2 28 k = lI (x.2 : Nat)) ∧ ∀ k, ks.length ≤ k → k < 8 → S.2.2.2 28 k = lI 0
theorem getD5 {l l' : List Nat} (h : l.length = 5) (h' : l'.length = 5) (e : ∀ j, j < 5 → l.getD j 0 = l'.getD j 0) : l = l' := by
  refine List.ext_getElem (by omega) (fun i h1 h2 => ?_)
  have := e i (by omega)
  rw [List.getD_eq_getElem?_getD, List.getD_eq_getElem?_getD, List.getElem?_eq_getElem h1, List.getElem?_eq_getElem h2] at this
  exact this
theorem m_isKind_2 {post : Int32 → MS → Prop} {S : MS} {at_ : Nat} {l l' : List Nat} (hat : at_ < 120) (hl : ∀ j, j < 5 → S.2.2.1 27 (5 * at_ + j) = iI (l.getD j 0 : Nat) ∧ l.getD j 0 ≤ 100) (hl' : ∀ j, j < 5 → S.2.2.1 26 j = iI (l'.getD j 0 : Nat) ∧ l'.getD j 0 ≤ 100) (h1 : (∀ j, j < 5 → l.getD j 0 = l'.getD j 0) → post 1 S) (h0 : ¬ (∀ j, j < 5 → l.getD j 0 = l'.getD j 0) → post 0 S) : ∀ (m j : Nat), j + m = 5 → (∀ i, i < j → l.getD i 0 = l'.getD i 0) → wX1_isKind_2 post (m + 1) (iI at_) (iI j) S := by
  intro m
  induction m with
  | zero =>
    intro j hj he
    unfold wX1_isKind_2
    exact b_t (by simp (disch := omega) only [iLit, lLit, iI_add, iI_sub, iI_mul, iI_neg, lI_add, lI_sub, lI_mul, lI_neg, nI_i, lI_i, iI_l, iI_nat, iI_lt, iI_le, iI_eq, lI_lt, lI_le, lI_eq] <;> omega) (h1 (fun i hi => he i (by omega)))
  | succ m ih =>
    intro j hj he
    unfold wX1_isKind_2
    refine b_f (by simp (disch := omega) only [iLit, lLit, iI_add, iI_sub, iI_mul, iI_neg, lI_add, lI_sub, lI_mul, lI_neg, nI_i, lI_i, iI_l, iI_nat, iI_lt, iI_le, iI_eq, lI_lt, lI_le, lI_eq] <;> omega) ?_
    simp (disch := omega) only [iLit, lLit, iI_add, iI_sub, iI_mul, iI_neg, lI_add, lI_sub, lI_mul, lI_neg, nI_i, lI_i, iI_nat]
    rw [show (5 * (at_ : Int) + (j : Int)).toNat = 5 * at_ + j by omega, show ((j : Int)).toNat = j by omega]
    obtain ⟨a1, a2⟩ := hl j (by omega)
    obtain ⟨b1, b2⟩ := hl' j (by omega)
    refine ⟨iI_in (by omega) (by omega) (by omega), iI_in (by omega) (by omega) (by omega), ?_⟩
    rw [a1, b1, iI_eq (by omega) (by omega) (by omega) (by omega)]
    refine ⟨fun e => ?_, fun e => h0 (fun z => e (by rw [z j (by omega)]))⟩
    exact ih (j + 1) (by omega) (fun i hi => by
      by_cases q : i = j
      · rw [q]; omega
      · exact he i (by omega))
theorem m_isKind {post : Int32 → MS → Prop} {S : MS} {at_ : Nat} {l l' : List Nat} (hat : at_ < 120) (h5 : l.length = 5) (h5' : l'.length = 5) (hl : ∀ j, j < 5 → S.2.2.1 27 (5 * at_ + j) = iI (l.getD j 0 : Nat) ∧ l.getD j 0 ≤ 100) (hl' : ∀ j, j < 5 → S.2.2.1 26 j = iI (l'.getD j 0 : Nat) ∧ l'.getD j 0 ≤ 100) (h1 : l = l' → post 1 S) (h0 : l ≠ l' → post 0 S) : wX1_isKind post S (iI at_) :=
  ⟨6, m_isKind_2 hat hl hl' (fun e => h1 (getD5 h5 h5' e)) (fun e => h0 (fun z => e (fun j _ => by rw [z]))) 5 0 (by omega) (fun i hi => by omega)⟩
/-- what turning may change -/
def tuEq (S S' : MS) : Prop := S'.2.1 = S.2.1 ∧ (∀ k, k ≠ 29 → S'.1 k = S.1 k) ∧ (∀ k, k ≠ 25 → k ≠ 26 → k ≠ 27 → S'.2.2.1 k = S.2.2.1 k) ∧ ∀ k, k ≠ 28 → S'.2.2.2 k = S.2.2.2 k
theorem tuEq.refl (S : MS) : tuEq S S := ⟨rfl, fun _ _ => rfl, fun _ _ _ _ => rfl, fun _ _ => rfl⟩
theorem tuEq.trans {S S' S'' : MS} (h : tuEq S S') (g : tuEq S' S'') : tuEq S S'' := ⟨g.1.trans h.1, fun k a => (g.2.1 k a).trans (h.2.1 k a), fun k a b c => (g.2.2.1 k a b c).trans (h.2.2.1 k a b c), fun k a => (g.2.2.2 k a).trans (h.2.2.2 k a)⟩
theorem tuEq.A {S : MS} {k : Nat} (hk : k = 25 ∨ k = 26 ∨ k = 27) (f : Nat → Int32) : tuEq S (mA S k f) := ⟨rfl, fun _ _ => rfl, fun j a b c => up_ne _ _ _ (by omega), fun _ _ => rfl⟩
theorem tuEq.B {S : MS} (f : Nat → Int64) : tuEq S (mB S 28 f) := ⟨rfl, fun _ _ => rfl, fun _ _ _ _ => rfl, fun k a => up_ne _ _ _ a⟩
theorem tuEq.I {S : MS} (v : Int32) : tuEq S (mI S 29 v) := ⟨rfl, fun k a => up_ne _ _ _ a, fun _ _ _ _ => rfl, fun _ _ => rfl⟩
theorem tuEq.forms {S S' : MS} {F : Nat → List tm} (h : tuEq S S') (hF : mForms S F) : mForms S' F := by
  intro s hs
  rw [h.2.2.1 0 (by omega) (by omega) (by omega), h.2.2.1 1 (by omega) (by omega) (by omega)]
  exact hF s hs
theorem m_tu_208 {rc : (Unit → MS → Prop) → MS → Int32 → Int32 → Int32 → Prop} {post : Unit → MS → Prop} {S : MS} {k : Nat} {l : List Nat} (hk : k < 120) (hl' : ∀ j, j < 5 → S.2.2.1 26 j = iI (l.getD j 0 : Nat) ∧ l.getD j 0 ≤ 100) {f0 : Nat → Int32} (h : ∀ f : Nat → Int32, (∀ j, j < 5 → f (5 * k + j) = iI (l.getD j 0 : Nat)) → (∀ q, (q < 5 * k ∨ 5 * k + 5 ≤ q) → f q = f0 q) → ((iI k = S.1 29) → post () (mI (mB (mA S 27 f) 28 (vp_updL (S.2.2.2 28) k (S.2.2.2 28 k + 1))) 29 (S.1 29 + 1))) ∧ (¬ (iI k = S.1 29) → post () (mB (mA S 27 f) 28 (vp_updL (S.2.2.2 28) k (S.2.2.2 28 k + 1))))) : ∀ (m j : Nat) (f : Nat → Int32), j + m = 5 → (∀ i, i < j → f (5 * k + i) = iI (l.getD i 0 : Nat)) → (∀ q, (q < 5 * k ∨ 5 * k + 5 ≤ q) → f q = f0 q) → wX1_turns_208 rc post (m + 1) (iI k) (iI j) (mA S 27 f) := by
  intro m
  induction m with
  | zero =>
    intro j f hj h1 h2
    unfold wX1_turns_208
    refine b_t (by simp (disch := omega) only [iLit, lLit, iI_add, iI_sub, iI_mul, iI_neg, lI_add, lI_sub, lI_mul, lI_neg, nI_i, lI_i, iI_l, iI_nat, iI_lt, iI_le, iI_eq, lI_lt, lI_le, lI_eq] <;> omega) ⟨iI_in (by omega) (by omega) (by omega), iI_in (by omega) (by omega) (by omega), ?_⟩
    rw [nat_i (by omega)]
    exact h f (fun i hi => h1 i (by omega)) h2
  | succ m ih =>
    intro j f hj h1 h2
    unfold wX1_turns_208
    refine b_f (by simp (disch := omega) only [iLit, lLit, iI_add, iI_sub, iI_mul, iI_neg, lI_add, lI_sub, lI_mul, lI_neg, nI_i, lI_i, iI_l, iI_nat, iI_lt, iI_le, iI_eq, lI_lt, lI_le, lI_eq] <;> omega) ?_
    simp (disch := omega) only [iLit, lLit, iI_add, iI_sub, iI_mul, iI_neg, lI_add, lI_sub, lI_mul, lI_neg, nI_i, lI_i, iI_nat, mA_at, mA_mA]
    rw [show (5 * (k : Int) + (j : Int)).toNat = 5 * k + j by omega, show ((j : Int)).toNat = j by omega]
    refine ⟨iI_in (by omega) (by omega) (by omega), iI_in (by omega) (by omega) (by omega), ?_⟩
    rw [show (mA S 27 f).2.2.1 26 j = S.2.2.1 26 j from rfl, (hl' j (by omega)).1]
    refine ih (j + 1) _ (by omega) (fun i hi => ?_) (fun q hq => ?_)
    · by_cases e : i = j
      · rw [e, upd_eq]
      · rw [upd_ne _ _ _ (by omega)]; exact h1 i (by omega)
    · rw [upd_ne _ _ _ (by omega)]; exact h2 q hq
theorem adK_app {l : List Nat} {B : tks} : ∀ A : tks, (∀ x ∈ A, x.1 ≠ l) → adK l (A ++ B) = A ++ adK l B
  | [], _ => rfl
  | a :: A, h => by
    show (if a.1 = l then (a.1, a.2 + 1) :: (A ++ B) else a :: adK l (A ++ B)) = a :: (A ++ adK l B)
    rw [if_neg (h a List.mem_cons_self), adK_app A (fun x hx => h x (List.mem_cons_of_mem _ hx))]
theorem m_tu_181 {rc : (Unit → MS → Prop) → MS → Int32 → Int32 → Int32 → Prop} {post : Unit → MS → Prop} {S : MS} {l : List Nat} (hl5 : l.length = 5) (hl' : ∀ j, j < 5 → S.2.2.1 26 j = iI (l.getD j 0 : Nat) ∧ l.getD j 0 ≤ 100) : ∀ (B A : tks), mKs S (A ++ B) → (∀ x ∈ A, x.1 ≠ l) → (adK l (A ++ B)).length ≤ 8 → (∀ S', tuEq S S' → S'.2.2.1 25 = S.2.2.1 25 → mKs S' (adK l (A ++ B)) → post () S') → wX1_turns_181 rc post (B.length + 1) (iI (A.length : Nat)) S
  | [], A, hK, hA, h8, h => by
    rw [List.append_nil] at hK h h8
    have eA : adK l A = A ++ [(l, 1)] := by
      have := adK_app (l := l) (B := []) A hA
      rw [List.append_nil] at this
      exact this
    rw [eA] at h h8
    rw [List.length_append] at h8
    simp only [List.length_cons, List.length_nil] at h8
    obtain ⟨k1, k2, k3, k4⟩ := hK
    unfold wX1_turns_181
    refine b_t (by rw [k2, iI_le (by omega) (by omega) (by omega) (by omega)]; omega) ⟨6, ?_⟩
    have := m_tu_208 (rc := rc) (post := post) (S := S) (k := A.length) (l := l) (by omega) hl' (f0 := S.2.2.1 27) (fun f hf1 hf2 => ⟨fun _ => ?_, fun e => absurd k2.symm e⟩) 5 0 (S.2.2.1 27) (by omega) (fun i hi => by omega) (fun q _ => rfl)
    · rw [mA_id] at this; exact this
    · refine h _ (((tuEq.A (by omega) f).trans (tuEq.B _)).trans (tuEq.I _)) rfl ⟨?_, ?_, fun k x hx => ?_, fun k hk1 hk2 => ?_⟩
      · rw [List.length_append]; simp; omega
      · rw [mI_at, k2, List.length_append]
        exact iI_add (A.length : Nat) 1
      · by_cases hkA : k < A.length
        · rw [List.getElem?_append_left hkA] at hx
          obtain ⟨x1, x2, x3⟩ := k3 k x hx
          refine ⟨x1, fun j hj => ?_, ?_⟩
          · show (mA S 27 f).2.2.1 27 (5 * k + j) = _ ∧ _
            rw [mA_at, hf2 _ (by omega)]; exact x2 j hj
          · show (mB (mA S 27 f) 28 _).2.2.2 28 k = _
            rw [mB_at, updL_ne _ _ _ (by omega)]; exact x3
        · rw [List.getElem?_append_right (by omega)] at hx
          have hk0 : k - A.length = 0 := by
            have := (List.getElem?_eq_some_iff.mp hx).1
            simp at this
            omega
          rw [hk0] at hx
          cases hx
          have hk : k = A.length := by omega
          subst hk
          refine ⟨hl5, fun j hj => ?_, ?_⟩
          · show (mA S 27 f).2.2.1 27 (5 * A.length + j) = _ ∧ _
            rw [mA_at, hf1 j hj]; exact ⟨rfl, (hl' j hj).2⟩
          · show (mB (mA S 27 f) 28 _).2.2.2 28 A.length = _
            rw [mB_at, updL_eq, k4 A.length (by omega) (by omega)]
            exact lI_add 0 1
      · rw [List.length_append] at hk1
        simp at hk1
        show (mB (mA S 27 f) 28 _).2.2.2 28 k = _
        rw [mB_at, updL_ne _ _ _ (by omega)]
        exact k4 k (by omega) hk2
  | x :: B, A, hK, hA, h8, h => by
    obtain ⟨k1, k2, k3, k4⟩ := hK
    have hx : (A ++ x :: B)[A.length]? = some x := by rw [List.getElem?_append_right (Nat.le_refl _), Nat.sub_self]; rfl
    obtain ⟨x1, x2, x3⟩ := k3 _ x hx
    have kl : A.length < (A ++ x :: B).length := (List.getElem?_eq_some_iff.mp hx).1
    unfold wX1_turns_181
    refine b_f (by rw [k2, iI_le (by omega) (by omega) (by omega) (by omega)]; omega) ?_
    refine m_isKind (by omega) x1 hl5 x2 hl' (fun e => b_f (by decide) ?_) (fun e => b_t rfl ?_)
    · have eA : adK l (A ++ x :: B) = A ++ (x.1, x.2 + 1) :: B := by
        rw [adK_app A hA]
        unfold adK
        rw [if_pos e]
      rw [eA] at h h8
      have := m_tu_208 (rc := rc) (post := post) (S := S) (k := A.length) (l := l) (by omega) hl' (f0 := S.2.2.1 27) (fun f hf1 hf2 => ⟨fun z => ?_, fun _ => ?_⟩) 5 0 (S.2.2.1 27) (by omega) (fun i hi => by omega) (fun q _ => rfl)
      · rw [mA_id] at this; exact ⟨6, this⟩
      · rw [k2, iI_eq (by omega) (by omega) (by omega) (by omega)] at z; omega
      · refine h _ ((tuEq.A (by omega) f).trans (tuEq.B _)) rfl ⟨h8, ?_, fun k y hy => ?_, fun k hk1 hk2 => ?_⟩
        · show S.1 29 = _
          rw [k2, List.length_append, List.length_append, List.length_cons, List.length_cons]
        · by_cases hkA : k = A.length
          · subst hkA
            rw [List.getElem?_append_right (Nat.le_refl _), Nat.sub_self] at hy
            cases hy
            refine ⟨x1, fun j hj => ?_, ?_⟩
            · show (mA S 27 f).2.2.1 27 (5 * A.length + j) = _ ∧ _
              rw [mA_at, hf1 j hj, ← e]; exact ⟨rfl, (x2 j hj).2⟩
            · show (mB (mA S 27 f) 28 _).2.2.2 28 A.length = _
              rw [mB_at, updL_eq, x3]
              exact lI_add (x.2 : Nat) 1
          · have hy' : (A ++ x :: B)[k]? = some y := by
              by_cases q : k < A.length
              · rw [List.getElem?_append_left q] at hy ⊢; exact hy
              · rw [List.getElem?_append_right (by omega)] at hy ⊢
                obtain ⟨d, hd⟩ : ∃ d, k - A.length = d + 1 := ⟨k - A.length - 1, by omega⟩
                rw [hd] at hy ⊢; exact hy
            obtain ⟨y1, y2, y3⟩ := k3 k y hy'
            refine ⟨y1, fun j hj => ?_, ?_⟩
            · show (mA S 27 f).2.2.1 27 (5 * k + j) = _ ∧ _
              rw [mA_at, hf2 _ (by omega)]; exact y2 j hj
            · show (mB (mA S 27 f) 28 _).2.2.2 28 k = _
              rw [mB_at, updL_ne _ _ _ hkA]; exact y3
        · show (mB (mA S 27 f) 28 _).2.2.2 28 k = _
          rw [List.length_append, List.length_cons] at hk1 kl
          rw [mB_at, updL_ne _ _ _ (by omega)]
          refine k4 k ?_ hk2
          rw [List.length_append, List.length_cons]; omega
    · have e2 : A ++ x :: B = (A ++ [x]) ++ B := by rw [List.append_assoc]; rfl
      rw [e2] at h h8
      have := m_tu_181 (rc := rc) (post := post) (S := S) hl5 hl' B (A ++ [x]) (by rw [← e2]; exact ⟨k1, k2, k3, k4⟩) (fun y hy => by
        rcases List.mem_append.mp hy with q | q
        · exact hA y q
        · rw [List.mem_singleton.mp q]; exact e) h8 h
      rw [len1] at this
      rw [List.length_cons, show iI (A.length : Int) + 1 = iI ((A.length + 1 : Nat) : Int) from iI_add A.length 1]
      exact this
