set_option maxRecDepth 100000
set_option maxHeartbeats 4000000
/-! the model: rows of letters, tried -/
theorem iI_pred (a : Int) : iI a + (-1 : Int32) = iI (a - 1) := by
  rw [show (-1 : Int32) = iI (-1) from rfl, iI_add]
  congr 1
def upZ (lt : Nat → Int) (k : Nat) (v : Int) : Nat → Int := fun j => if j = k then v else lt j
theorem upZ_s (lt : Nat → Int) (k : Nat) (v : Int) : upZ lt k v k = v := if_pos rfl
theorem upZ_n (lt : Nat → Int) {k j : Nat} (v : Int) (h : j ≠ k) : upZ lt k v j = lt j := if_neg h
/-- the next row of letters, the last one first; none: that was the last -/
def gnR (l : Nat) (b : Int) : Nat → (Nat → Int) → Option (Nat → Int)
  | 0, _ => none
  | k + 1, lt => if l / 2 ^ k % 2 = 0 then gnR l b k lt else if lt k < b then some (upZ lt k (lt k + 1)) else gnR l b k (upZ lt k (-b))
theorem bit_sh_all : ∀ a : Fin 64, ∀ k : Fin 6, ((iI (a.val : Int)) >>> (iI (k.val : Int) &&& 31)) &&& (1 : Int32) = iI ((a.val / 2 ^ k.val % 2 : Nat) : Int) := by decide +kernel
theorem bit_sh {l k : Nat} (hl : l < 64) (hk : k < 6) : ((iI (l : Int)) >>> (iI (k : Int) &&& 31)) &&& (1 : Int32) = iI ((l / 2 ^ k % 2 : Nat) : Int) := bit_sh_all ⟨l, hl⟩ ⟨k, hk⟩
theorem gn_far {l : Nat} {b : Int} : ∀ (k : Nat) (lt lt' : Nat → Int), gnR l b k lt = some lt' → ∀ j, k ≤ j → lt' j = lt j
  | 0, lt, lt', h, j, hj => by cases h
  | k + 1, lt, lt', h, j, hj => by
    unfold gnR at h
    split at h
    · exact gn_far k lt lt' h j (by omega)
    split at h
    · cases h; exact upZ_n _ _ (by omega)
    · rw [gn_far k _ lt' h j (by omega)]; exact upZ_n _ _ (by omega)
/-- a row of letters as a number -/
def gZM (b : Int) : Nat → (Nat → Int) → Int
  | 0, _ => 0
  | k + 1, lt => gZM b k lt * (2 * b + 1) + (lt k + b)
theorem gZM_up (b : Int) (lt : Nat → Int) (j : Nat) (v : Int) : ∀ k : Nat, k ≤ j → gZM b k (upZ lt j v) = gZM b k lt
  | 0, _ => rfl
  | k + 1, h => by
    show gZM b k (upZ lt j v) * (2 * b + 1) + (upZ lt j v k + b) = gZM b k lt * (2 * b + 1) + (lt k + b)
    rw [gZM_up b lt j v k (by omega), upZ_n _ _ (by omega)]
abbrev gBd (b : Int) (lt : Nat → Int) : Prop := ∀ j, j < 6 → -b ≤ lt j ∧ lt j ≤ b
theorem gBd.up {b : Int} {lt : Nat → Int} (h : gBd b lt) {k : Nat} {v : Int} (h1 : -b ≤ v) (h2 : v ≤ b) : gBd b (upZ lt k v) := fun j hj => by
  unfold upZ
  split
  · exact ⟨h1, h2⟩
  · exact h j hj
theorem gn_more {l : Nat} {b : Int} (hb : 0 ≤ b) : ∀ (k : Nat) (lt lt' : Nat → Int), k ≤ 6 → gBd b lt → gnR l b k lt = some lt' → gBd b lt' ∧ gZM b k lt + 1 ≤ gZM b k lt'
  | 0, lt, lt', _, _, h => by cases h
  | k + 1, lt, lt', hk, hB, h => by
    have hBk := hB k (by omega)
    unfold gnR at h
    split at h
    · obtain ⟨a1, a2⟩ := gn_more hb k lt lt' (by omega) hB h
      refine ⟨a1, ?_⟩
      show gZM b k lt * (2 * b + 1) + (lt k + b) + 1 ≤ gZM b k lt' * (2 * b + 1) + (lt' k + b)
      rw [gn_far k lt lt' h k (Nat.le_refl _)]
      have := Int.mul_le_mul_of_nonneg_right a2 (show 0 ≤ 2 * b + 1 by omega)
      rw [Int.add_mul] at this
      omega
    split at h
    · rename_i hlt
      cases h
      refine ⟨hB.up (by omega) (by omega), ?_⟩
      show gZM b k lt * (2 * b + 1) + (lt k + b) + 1 ≤ gZM b k (upZ lt k (lt k + 1)) * (2 * b + 1) + (upZ lt k (lt k + 1) k + b)
      rw [gZM_up b lt k _ k (Nat.le_refl _), upZ_s]
      omega
    · obtain ⟨a1, a2⟩ := gn_more hb k _ lt' (by omega) (hB.up (by omega) (by omega)) h
      refine ⟨a1, ?_⟩
      rw [gZM_up b lt k _ k (Nat.le_refl _)] at a2
      show gZM b k lt * (2 * b + 1) + (lt k + b) + 1 ≤ gZM b k lt' * (2 * b + 1) + (lt' k + b)
      rw [gn_far k _ lt' h k (Nat.le_refl _), upZ_s]
      have := Int.mul_le_mul_of_nonneg_right a2 (show 0 ≤ 2 * b + 1 by omega)
      rw [Int.add_mul] at this
      omega
theorem gZM_le {b : Int} (hb : 0 ≤ b ∧ b ≤ 3) {lt : Nat → Int} (hB : gBd b lt) : gZM b 6 lt < 117649 := by
  have h0 := hB 0 (by omega)
  have h1 := hB 1 (by omega)
  have h2 := hB 2 (by omega)
  have h3 := hB 3 (by omega)
  have h4 := hB 4 (by omega)
  have h5 := hB 5 (by omega)
  show (((((0 * (2 * b + 1) + (lt 0 + b)) * (2 * b + 1) + (lt 1 + b)) * (2 * b + 1) + (lt 2 + b)) * (2 * b + 1) + (lt 3 + b)) * (2 * b + 1) + (lt 4 + b)) * (2 * b + 1) + (lt 5 + b) < 117649
  rcases (show b = 0 ∨ b = 1 ∨ b = 2 ∨ b = 3 by omega) with q | q | q | q <;> subst q <;> omega
/-- so many rows come to an end -/
def trN (l : Nat) (b : Int) : Nat → (Nat → Int) → Prop
  | 0, _ => False
  | m + 1, lt => match gnR l b 6 lt with
    | none => True
    | some lt' => trN l b m lt'
theorem trN_ok {l : Nat} {b : Int} (hb : 0 ≤ b ∧ b ≤ 3) : ∀ (m : Nat) (lt : Nat → Int), gBd b lt → 117649 ≤ gZM b 6 lt + m → trN l b m lt
  | 0, lt, hB, h => by have := gZM_le hb hB; omega
  | m + 1, lt, hB, h => by
    unfold trN
    split
    · trivial
    · rename_i lt' e
      obtain ⟨a1, a2⟩ := gn_more hb.1 6 lt lt' (by omega) hB e
      exact trN_ok hb m lt' a1 (by omega)
theorem mLt.up {S : MS} {lt : Nat → Int} {k : Nat} {v : Int} (h : mLt S lt) (hv : -100 ≤ v ∧ v ≤ 100) : mLt (mA S 42 (upd (S.2.2.1 42) k (iI v))) (upZ lt k v) := fun j hj => by
  rw [mA_at]
  unfold upd upZ
  split
  · exact ⟨rfl, hv⟩
  · exact h j hj
theorem m_gn_2 {post : Int32 → MS → Prop} {S0 : MS} {l : Nat} {b : Int} (hl : l < 64) (h39 : S0.1 39 = iI l) (hb : 0 ≤ b ∧ b ≤ 3) : ∀ (k : Nat) (lt : Nat → Int) (S : MS), k ≤ 6 → trEq S0 S → mLt S lt → (∀ lt' S', gnR l b k lt = some lt' → trEq S0 S' → mLt S' lt' → post 1 S') → (gnR l b k lt = none → ∀ S', trEq S0 S' → post 0 S') → wX1_goesOn_2 post (k + 1) (iI b) (iI ((k : Int) - 1)) S := by
  intro k
  induction k with
  | zero =>
    intro lt S hk hr hlt h1 h0
    unfold wX1_goesOn_2
    exact b_t (by decide) (h0 rfl S hr)
  | succ k ih =>
    intro lt S hk hr hlt h1 h0
    have e : ((k + 1 : Nat) : Int) - 1 = (k : Nat) := by omega
    rw [e]
    obtain ⟨l1, l2, l3⟩ := hlt k (by omega)
    have ek : iI (k : Int) + (-1 : Int32) = iI ((k : Int) - 1) := iI_pred k
    unfold wX1_goesOn_2
    refine b_f (by simp (disch := omega) only [iLit, lLit, iI_add, iI_sub, iI_mul, iI_neg, lI_add, lI_sub, lI_mul, lI_neg, nI_i, lI_i, iI_l, iI_nat, iI_lt, iI_le, iI_eq, lI_lt, lI_le, lI_eq] <;> omega) ?_
    rw [hr.2.1 39 (by omega), h39, bit_sh hl (by omega)]
    unfold gnR at h1 h0
    by_cases q : l / 2 ^ k % 2 = 0
    · rw [if_pos q] at h1 h0
      refine b_t (by rw [q]; rfl) ?_
      unfold wX1_goesOn_50
      rw [ek]
      exact ih lt S (by omega) hr hlt h1 h0
    · rw [if_neg q] at h1 h0
      have q1 : l / 2 ^ k % 2 = 1 := by have := Nat.mod_lt (l / 2 ^ k) (show 0 < 2 by omega); omega
      refine b_f (by rw [q1]; decide) ⟨iI_in (by omega) (by omega) (by omega), ?_⟩
      rw [nat_i (by omega), l1, iI_le (by omega) (by omega) (by omega) (by omega)]
      refine ⟨fun z => ⟨iI_in (by omega) (by omega) (by omega), ?_⟩, fun z => ⟨iI_in (by omega) (by omega) (by omega), iI_in (by omega) (by omega) (by omega), ?_⟩⟩
      · rw [if_neg (by omega)] at h1 h0
        unfold wX1_goesOn_50
        rw [ek, show -iI b = iI (-b) from iI_neg b]
        exact ih _ _ (by omega) (hr.trans (trEq.A _)) (hlt.up (by omega)) h1 h0
      · rw [if_pos (by omega)] at h1 h0
        rw [show iI (lt k) + 1 = iI (lt k + 1) from iI_add _ 1]
        exact h1 _ _ rfl (hr.trans (trEq.A _)) (hlt.up (by omega))
theorem m_goesOn {post : Int32 → MS → Prop} {S : MS} {l : Nat} {b : Int} {lt : Nat → Int} (hl : l < 64) (h39 : S.1 39 = iI l) (hb : 0 ≤ b ∧ b ≤ 3) (hlt : mLt S lt) (h1 : ∀ lt' S', gnR l b 6 lt = some lt' → trEq S S' → mLt S' lt' → post 1 S') (h0 : gnR l b 6 lt = none → ∀ S', trEq S S' → post 0 S') : wX1_goesOn post S (iI b) := ⟨7, m_gn_2 hl h39 hb 6 lt S (by omega) (trEq.refl S) hlt h1 h0⟩
/-- trying all rows: how many break it; the first that does, and whether it is beyond -/
def trR (e : Nat) (C : List (Int × Int)) (l : Nat) (b : Int) : Nat → Int → Option ((Nat → Int) × Int) → (Nat → Int) → Int × Option ((Nat → Int) × Int)
  | 0, n, fs, _ => (n, fs)
  | m + 1, n, fs, lt => match gnR l b 6 lt with
    | none => (if bkS e C lt = 0 then n else n + 1, if bkS e C lt = 0 then fs else fs.or (some (lt, if bkS e C lt = 2 then 1 else 0)))
    | some lt' => trR e C l b m (if bkS e C lt = 0 then n else n + 1) (if bkS e C lt = 0 then fs else fs.or (some (lt, if bkS e C lt = 2 then 1 else 0))) lt'
def trA (what : Int) (r : Int × Option ((Nat → Int) × Int)) : Int := if what = 0 then r.1 else match r.2 with
  | none => -100000
  | some (lt, z) => if what = 7 then z else lt (what - 1).toNat
/-- the first row that broke it lies so -/
def mFst (S : MS) (n : Int) (fs : Option ((Nat → Int) × Int)) : Prop := match fs with
  | none => n = 0
  | some (lt, z) => 1 ≤ n ∧ (∀ k, k < 6 → S.2.2.1 45 k = iI (lt k)) ∧ S.2.2.1 45 6 = iI z
theorem mFst.eq {S S' : MS} {n : Int} {fs : Option ((Nat → Int) × Int)} (h : mFst S n fs) (e : S'.2.2.1 45 = S.2.2.1 45) : mFst S' n fs := by
  unfold mFst at h ⊢
  split
  · exact h
  · rw [e]; exact h
theorem mFst.more {S : MS} {n : Int} {x : (Nat → Int) × Int} (h : mFst S n (some x)) : mFst S (n + 1) (some x) := by
  obtain ⟨a, b, c⟩ := h
  exact ⟨by omega, b, c⟩
theorem mFst.tr {S S' : MS} {n : Int} {fs : Option ((Nat → Int) × Int)} (h : mFst S n fs) (e : trEq S S') : mFst S' n fs := h.eq (e.2.2.1 45 (by omega))
/-- what tried may change -/
def tr5 (S S' : MS) : Prop := S'.2.1 = S.2.1 ∧ (∀ k, k ≠ 44 → S'.1 k = S.1 k) ∧ (∀ k, k ≠ 42 → k ≠ 45 → S'.2.2.1 k = S.2.2.1 k) ∧ ∀ k, k ≠ 43 → S'.2.2.2 k = S.2.2.2 k
theorem trEq.t5 {S S' : MS} (h : trEq S S') : tr5 S S' := ⟨h.1, h.2.1, fun k a _ => h.2.2.1 k a, h.2.2.2⟩
theorem tr5.trans {S S' S'' : MS} (h : tr5 S S') (g : tr5 S' S'') : tr5 S S'' := ⟨g.1.trans h.1, fun k a => (g.2.1 k a).trans (h.2.1 k a), fun k a b => (g.2.2.1 k a b).trans (h.2.2.1 k a b), fun k a => (g.2.2.2 k a).trans (h.2.2.2 k a)⟩
theorem tr5.A {S : MS} (f : Nat → Int32) : tr5 S (mA S 45 f) := ⟨rfl, fun _ _ => rfl, fun k _ a => up_ne _ _ _ a, fun _ _ => rfl⟩
theorem tr5.idn {S S' : MS} {e : Nat} {C : List (Int × Int)} {p l : Nat} (h : tr5 S S') (g : mIdn S e C p l) : mIdn S' e C p l := by
  obtain ⟨g1, g2, g3, g4, g5, g6⟩ := g
  refine ⟨by rw [h.2.1 41 (by omega)]; exact g1, by rw [h.2.1 37 (by omega)]; exact g2, by rw [h.2.1 39 (by omega)]; exact g3, by rw [h.2.2.1 35 (by omega) (by omega)]; exact g4, by rw [h.2.2.1 35 (by omega) (by omega)]; exact g5, fun i c hc => ?_⟩
  rw [h.2.2.1 34 (by omega) (by omega), h.2.2.1 33 (by omega) (by omega)]; exact g6 i c hc
theorem m_tr97 {K78 : Int32 → Int32 → Int32 → Int32 → MS → Prop} {post : Int32 → MS → Prop} {S : MS} {z : Int} {lt : Nat → Int} {x1 x2 x3 : Int32} (hz : z = 0 ∨ z = 1) (h44 : S.1 44 = iI z) (hlt : mLt S lt) (h : ∀ f : Nat → Int32, (∀ k, k < 6 → f k = iI (lt k)) → f 6 = iI z → wX1_tried_138 K78 post x1 x2 x3 (mA S 45 f)) : ∀ (m q : Nat) (f : Nat → Int32), q + m = 6 → (∀ k, k < q → f k = iI (lt k)) → wX1_tried_97 K78 post (m + 1) x1 x2 x3 (iI q) (mA S 45 f) := by
  intro m
  induction m with
  | zero =>
    intro q f hq hf
    have q6 : q = 6 := by omega
    subst q6
    unfold wX1_tried_97
    refine b_t (by decide) ?_
    have hk : wX1_tried_138 K78 post x1 x2 x3 (mA (mA S 45 f) 45 (upd ((mA S 45 f).2.2.1 45) (6 : Int32).toNatClampNeg (iI z))) := by
      rw [mA_mA, mA_at]
      refine h _ (fun k hk => ?_) ?_
      · rw [upd_ne _ _ _ (show k ≠ (6 : Int32).toNatClampNeg from fun e => by have e : k = 6 := e; omega)]
        exact hf k hk
      · exact upd_eq f 6 (iI z)
    have h44' : (mA S 45 f).1 44 = iI z := h44
    rw [h44']
    unfold wX1_one
    rcases hz with hz | hz
    · subst hz
      exact b_t rfl ⟨iI_in (z := 6) (by omega) (by omega) (by omega), hk⟩
    · subst hz
      exact b_f (by decide) ⟨iI_in (z := 6) (by omega) (by omega) (by omega), hk⟩
  | succ m ih =>
    intro q f hq hf
    unfold wX1_tried_97
    refine b_f (by simp (disch := omega) only [iLit, lLit, iI_add, iI_sub, iI_mul, iI_neg, lI_add, lI_sub, lI_mul, lI_neg, nI_i, lI_i, iI_l, iI_nat, iI_lt, iI_le, iI_eq, lI_lt, lI_le, lI_eq] <;> omega) ⟨iI_in (by omega) (by omega) (by omega), iI_in (by omega) (by omega) (by omega), ?_⟩
    rw [nat_i (by omega), mA_mA, mA_at, show iI (q : Int) + 1 = iI ((q + 1 : Nat) : Int) from iI_add q 1]
    refine ih (q + 1) _ (by omega) (fun k hk => ?_)
    by_cases e : k = q
    · subst e
      rw [upd_eq]
      show (va_up S.2.2.1 45 f) 42 k = _
      rw [up_ne _ _ _ (by omega)]
      exact (hlt k (by omega)).1
    · rw [upd_ne _ _ _ e]; exact hf k (by omega)
theorem m_tried_78 {post : Int32 → MS → Prop} {S0 : MS} {e : Nat} {C : List (Int × Int)} {p l : Nat} {b what : Int} (hI : mIdn S0 e C p l) (hC : sdsOk e C) (hl : l < 64) (hb : 0 ≤ b ∧ b ≤ 3) (hw : 0 ≤ what ∧ what ≤ 7) : ∀ (m : Nat) (lt : Nat → Int) (n : Int) (fs : Option ((Nat → Int) × Int)) (S : MS), trN l b m lt → tr5 S0 S → mLt S lt → mFst S n fs → 0 ≤ n → n + m ≤ 1000000 → (∀ S', tr5 S0 S' → post (iI (trA what (trR e C l b m n fs lt))) S') → wX1_tried_78 post (m + 1) (iI b) (iI what) (iI n) (iI 1) S := by
  intro m
  induction m with
  | zero => intro lt n fs S h; exact h.elim
  | succ m ih =>
    intro lt n fs S hN hr hlt hf hn hm h
    -- behind a row: the next one
    have next : ∀ (n' : Int) (fs' : Option ((Nat → Int) × Int)) (S1 : MS), n' = (if bkS e C lt = 0 then n else n + 1) → fs' = (if bkS e C lt = 0 then fs else fs.or (some (lt, if bkS e C lt = 2 then 1 else 0))) → tr5 S0 S1 → mLt S1 lt → mFst S1 n' fs' → wX1_tried_141 (fun x1 x2 x3 x4 S => wX1_tried_78 post (m + 1) x1 x2 x3 x4 S) post (iI b) (iI what) (iI n') S1 := by
      intro n' fs' S1 en ef r1 l1 f1
      have hn' : 0 ≤ n' ∧ n' ≤ n + 1 := by rw [en]; split <;> omega
      unfold wX1_tried_141
      refine m_goesOn hl ((r1.idn hI).2.2.1) hb l1 (fun lt' S2 eg r2 l2 => ?_) (fun eg S2 r2 => ?_)
      · have et : trR e C l b (m + 1) n fs lt = trR e C l b m n' fs' lt' := by
          rw [en, ef]
          show (match gnR l b 6 lt with
            | none => _
            | some lt' => _) = _
          rw [eg]
        have hN' : trN l b m lt' := by
          have hN : (match gnR l b 6 lt with
            | none => True
            | some lt' => trN l b m lt') := hN
          rw [eg] at hN; exact hN
        exact ih lt' n' fs' S2 hN' (r1.trans r2.t5) l2 (f1.tr r2) hn'.1 (by omega) (fun S' q => by rw [← et]; exact h S' q)
      · have et : trR e C l b (m + 1) n fs lt = (n', fs') := by
          rw [en, ef]
          show (match gnR l b 6 lt with
            | none => _
            | some lt' => _) = _
          rw [eg]
        have hh := h S2 (r1.trans r2.t5)
        rw [et] at hh
        have f2 := f1.tr r2
        unfold wX1_tried_78
        refine b_t rfl ?_
        rw [show (0 : Int32) = iI 0 from rfl, iI_eq (by omega) (by omega) (by omega) (by omega), iI_eq (by omega) (by omega) (by omega) (by omega)]
        unfold trA at hh
        refine ⟨fun q => by rw [if_pos q] at hh; exact hh, fun q => ?_⟩
        rw [if_neg q] at hh
        have ew : iI what - (1 : Int32) = iI (what - 1) := iI_sub what 1
        rw [ew, iI_nat (by omega) (by omega)]
        match fs', f2, hh with
        | none, f2, hh => exact b_t f2 hh
        | some (lt0, z), f2, hh =>
          obtain ⟨a1, a2, a3⟩ := f2
          refine b_f (by omega) ⟨iI_in (by omega) (by omega) (by omega), ?_⟩
          have hh : post (iI (if what = 7 then z else lt0 (what - 1).toNat)) S2 := hh
          by_cases q7 : what = 7
          · rw [if_pos q7] at hh
            subst q7
            rw [show ((7 : Int) - 1).toNat = 6 from rfl, a3]; exact hh
          · rw [if_neg q7] at hh
            rw [a2 _ (by omega)]; exact hh
    unfold wX1_tried_78
    refine b_f (by decide) ?_
    refine m_isBroken (hr.idn hI) hC hlt (fun S1 r1 l1 h44 => ?_)
    have rr := hr.trans r1.t5
    have f1 := hf.tr r1
    by_cases q : bkS e C lt = 0
    · rw [if_pos q]
      exact b_t rfl (next n fs S1 (by rw [if_pos q]) (by rw [if_pos q]) rr l1 f1)
    · rw [if_neg q]
      refine b_f (by decide) ?_
      rw [show (0 : Int32) = iI 0 from rfl, iI_eq (by omega) (by omega) (by omega) (by omega)]
      have e1 : iI n + (1 : Int32) = iI (n + 1) := iI_add n 1
      refine ⟨fun z => ?_, fun z => ?_⟩
      · have en : fs = none := by
          match fs, hf with
          | none, _ => rfl
          | some (lt0, z0), hf => have := hf.1; omega
        subst en
        refine ⟨7, ?_⟩
        have := m_tr97 (K78 := fun x1 x2 x3 x4 S => wX1_tried_78 post (m + 1) x1 x2 x3 x4 S) (post := post) (S := S1) (z := if bkS e C lt = 2 then 1 else 0) (lt := lt) (x1 := iI b) (x2 := iI what) (x3 := iI n) (by split <;> omega) h44 l1 (fun f a1 a2 => by
          unfold wX1_tried_138
          rw [e1]
          refine next (n + 1) (some (lt, if bkS e C lt = 2 then 1 else 0)) _ (by rw [if_neg q]) (by rw [if_neg q]; rfl) (rr.trans (tr5.A f)) ?_ ?_
          · exact fun k hk => l1 k hk
          · refine ⟨by omega, ?_, ?_⟩
            · rw [mA_at]; exact a1
            · rw [mA_at]; exact a2) 6 0 (S1.2.2.1 45) (by omega) (fun k hk => by omega)
        rw [mA_id] at this
        exact this
      · unfold wX1_tried_138
        rw [e1]
        match fs, f1, hf with
        | none, _, hf => exact absurd hf z
        | some x, f1, _ => exact next (n + 1) (some x) S1 (by rw [if_neg q]) (by rw [if_neg q]; rfl) rr l1 f1.more
/-- the first row of letters -/
def lt0 (l : Nat) (b : Int) : Nat → Int := fun k => if l / 2 ^ k % 2 = 1 then -b else 0
def trS (e : Nat) (C : List (Int × Int)) (l : Nat) (b what : Int) : Int := trA what (trR e C l b 117650 0 none (lt0 l b))
theorem m_tried_37 {post : Int32 → MS → Prop} {S0 : MS} {e : Nat} {C : List (Int × Int)} {p l : Nat} {b what : Int} (hI : mIdn S0 e C p l) (hC : sdsOk e C) (hl : l < 64) (hb : 0 ≤ b ∧ b ≤ 3) (hw : 0 ≤ what ∧ what ≤ 7) (h : ∀ S', tr5 S0 S' → post (iI (trS e C l b what)) S') : ∀ (m k : Nat) (f : Nat → Int32), k + m = 6 → (∀ j, j < k → f j = iI (lt0 l b j)) → wX1_tried_37 post (m + 1) (iI b) (iI what) (iI k) (mA S0 42 f) := by
  intro m
  induction m with
  | zero =>
    intro k f hk hf
    unfold wX1_tried_37
    refine b_t (by simp (disch := omega) only [iLit, lLit, iI_add, iI_sub, iI_mul, iI_neg, lI_add, lI_sub, lI_mul, lI_neg, nI_i, lI_i, iI_l, iI_nat, iI_lt, iI_le, iI_eq, lI_lt, lI_le, lI_eq] <;> omega) ⟨117651, ?_⟩
    have hB : gBd b (lt0 l b) := fun j hj => by unfold lt0; split <;> omega
    have hM : 0 ≤ gZM b 6 (lt0 l b) := by
      have : ∀ k : Nat, k ≤ 6 → 0 ≤ gZM b k (lt0 l b) := fun k => by
        induction k with
        | zero => intro _; exact Int.le_refl 0
        | succ k ih =>
          intro hk
          have h1 := ih (by omega)
          have h2 := hB k (by omega)
          show 0 ≤ gZM b k (lt0 l b) * (2 * b + 1) + (lt0 l b k + b)
          have := Int.mul_nonneg h1 (show 0 ≤ 2 * b + 1 by omega)
          omega
      exact this 6 (by omega)
    refine m_tried_78 hI hC hl hb hw 117650 (lt0 l b) 0 none _ (trN_ok hb _ _ hB (by omega)) (trEq.A f).t5 (fun j hj => ?_) rfl (by omega) (by omega) h
    have := hB j hj
    rw [mA_at]
    exact ⟨hf j (by omega), by omega, by omega⟩
  | succ m ih =>
    intro k f hk hf
    unfold wX1_tried_37
    refine b_f (by simp (disch := omega) only [iLit, lLit, iI_add, iI_sub, iI_mul, iI_neg, lI_add, lI_sub, lI_mul, lI_neg, nI_i, lI_i, iI_l, iI_nat, iI_lt, iI_le, iI_eq, lI_lt, lI_le, lI_eq] <;> omega) ?_
    have e39 : (mA S0 42 f).1 39 = iI l := hI.2.2.1
    rw [e39, bit_sh hl (by omega)]
    have st : ∀ v : Int, v = lt0 l b k → wX1_tried_66 (fun x1 x2 x3 S => wX1_tried_37 post (m + 1) x1 x2 x3 S) post (iI b) (iI what) (iI k) (iI v) (iI k) (mA S0 42 f) := by
      intro v hv
      unfold wX1_tried_66
      refine ⟨iI_in (by omega) (by omega) (by omega), ?_⟩
      rw [nat_i (by omega), mA_mA, mA_at, show iI (k : Int) + 1 = iI ((k + 1 : Nat) : Int) from iI_add k 1]
      refine ih (k + 1) _ (by omega) (fun j hj => ?_)
      by_cases q : j = k
      · subst q; rw [upd_eq, hv]
      · rw [upd_ne _ _ _ q]; exact hf j (by omega)
    by_cases q : l / 2 ^ k % 2 = 1
    · refine b_t (by rw [q]; rfl) ?_
      rw [show -iI b = iI (-b) from iI_neg b]
      exact st (-b) (by unfold lt0; rw [if_pos q])
    · have q0 : l / 2 ^ k % 2 = 0 := by have := Nat.mod_lt (l / 2 ^ k) (show 0 < 2 by omega); omega
      refine b_f (by rw [q0]; decide) ?_
      exact st 0 (by unfold lt0; rw [if_neg q])
theorem m_tried {post : Int32 → MS → Prop} {S : MS} {e : Nat} {C : List (Int × Int)} {p l : Nat} {b what : Int} (hI : mIdn S e C p l) (hC : sdsOk e C) (hl : l < 64) (hb : i32 b) (hw : i32 what) (h0 : ¬ (0 ≤ b ∧ b ≤ 3 ∧ 0 ≤ what ∧ what ≤ 7) → post (iI (-100000)) S) (h1 : 0 ≤ b → b ≤ 3 → 0 ≤ what → what ≤ 7 → ∀ S', tr5 S S' → post (iI (trS e C l b what)) S') : wX1_tried post S (iI b) (iI what) := by
  unfold wX1_tried
  rw [hI.1]
  refine b_f (by decide) ?_
  rw [iI_l hb.1 hb.2, iI_l hw.1 hw.2]
  refine m_isIn (b := 0) (c := 3) (by omega) (by omega) (by omega) (fun x1 x2 => b_f (by decide) ?_) (fun q => b_t rfl (h0 (fun z => q ⟨z.1, z.2.1⟩)))
  refine m_isIn (b := 0) (c := 7) (by omega) (by omega) (by omega) (fun y1 y2 => b_f (by decide) ⟨7, ?_⟩) (fun q => b_t rfl (h0 (fun z => q z.2.2)))
  have := m_tried_37 hI hC hl ⟨x1, x2⟩ ⟨y1, y2⟩ (h1 x1 x2 y1 y2) 6 0 (S.2.2.1 42) (by omega) (fun j hj => by omega)
  rw [mA_id] at this
  exact this
theorem m_noId {post : Int32 → MS → Prop} {S : MS} {b what : Int32} (h : S.1 41 = iI 0) (h0 : post (iI (-100000)) S) : wX1_tried post S b what := by
  unfold wX1_tried
  exact b_t h h0
theorem m_noIdS {post : Int64 → MS → Prop} {S : MS} {s a b c d e f : Int32} (h : S.1 41 = iI 0) (h0 : post (lI (-9223372036854775808)) S) : wX1_side post S s a b c d e f := by
  unfold wX1_side
  exact b_t h h0
