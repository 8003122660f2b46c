set_option maxRecDepth 100000
set_option maxHeartbeats 4000000
/-! the model turns like terms round -/
theorem cyP_in {rd : Nat → Nat} : ∀ (f seen o c : Nat) (seen' c' : Nat), seen < 64 → cyP rd f seen o c = some (seen', c') → seen' < 64 ∧ c' ≤ c + f
  | 0, _, _, _, _, _, _, h => by cases h
  | f + 1, seen, o, c, seen', c', hs, h => by
    unfold cyP at h
    split at h
    · split at h
      · rename_i h5
        have hb := bit_lt (k := (o : Int)) hs (by omega) (by omega)
        rw [show ((o : Int)).toNat = o by omega] at hb
        have := cyP_in f _ _ _ _ _ hb h
        omega
      · cases h
    · split at h
      · cases h; omega
      · cases h
abbrev rdR (S : MS) (rd : Nat → Nat) (i n : Nat) : Prop := ∀ j, j < i → S.2.2.1 25 j = iI (rd j : Nat) ∧ rd j < n
theorem m_tu_124 {rc : (Unit → MS → Prop) → MS → Int32 → Int32 → Int32 → Prop} {K106 : Int32 → Int32 → Int32 → MS → Prop} {post : Unit → MS → Prop} {S : MS} {n k : Nat} {rd : Nat → Nat} {x1 : Int32} (hn : n ≤ 5) (hk : k < 5) (hrd : rdR S rd n n) : ∀ (f seen o c seen' c' : Nat), o < n → seen < 64 → cyP rd f seen o c = some (seen', c') → K106 x1 (iI (seen' : Nat)) (iI ((k + 1 : Nat) : Int)) (mA S 26 (upd (S.2.2.1 26) k (iI (c' : Nat)))) → wX1_turns_124 rc K106 post f x1 (iI (seen : Nat)) (iI k) (iI (c : Nat)) (iI (o : Nat)) S
  | 0, _, _, _, _, _, _, _, h, _ => by cases h
  | f + 1, seen, o, c, seen', c', ho, hs, h, hK => by
    unfold cyP at h
    unfold wX1_turns_124
    rw [bit_sh hs (by omega), show (0 : Int32) = iI 0 from rfl, iI_eq (by omega) (by omega) (by omega) (by omega)]
    by_cases e : seen / 2 ^ o % 2 = 0
    · rw [if_pos e, if_pos (by omega)] at h
      refine b_t (by omega) ⟨iI_in (by omega) (by omega) (by omega), ?_⟩
      have hb := bit_lt (k := (o : Int)) hs (by omega) (by omega)
      have hr := hrd o ho
      rw [bit_or hs (by omega) (by omega), nat_i (by omega), hr.1, show iI (c : Int) + 1 = iI ((c + 1 : Nat) : Int) from iI_add c 1]
      rw [show ((o : Int)).toNat = o by omega] at hb ⊢
      exact m_tu_124 hn hk hrd f _ _ _ _ _ hr.2 hb h hK
    · rw [if_neg e, if_pos (by omega)] at h
      cases h
      refine b_f (by omega) ⟨iI_in (by omega) (by omega) (by omega), ?_⟩
      rw [nat_i (by omega), show iI (k : Int) + 1 = iI ((k + 1 : Nat) : Int) from iI_add k 1]
      exact hK
theorem m_tu_106 {rc : (Unit → MS → Prop) → MS → Int32 → Int32 → Int32 → Prop} {post : Unit → MS → Prop} {S : MS} {F : Nat → List tm} {s : Nat} {rd : Nat → Nat} (hF : mForms S F) (hs : s < 4) (hrd : rdR S rd (F s).length (F s).length) : ∀ (m k seen : Nat) (len len' : Nat → Nat) (f : Nat → Int32), k + m = (F s).length → seen < 64 → rLn f len → lnP rd m k seen len = some len' → (∀ f', rLn f' len' → wX1_sorts (fun _ S5 => ∃ k, wX1_turns_181 rc post k (0 : Int32) S5) (mA S 26 f') (iI s)) → wX1_turns_106 rc post (m + 1) (iI s) (iI (seen : Nat)) (iI k) (mA S 26 f) := by
  obtain ⟨e0, hv, -⟩ := hF s hs
  have h5 := hv.1
  intro m
  induction m with
  | zero =>
    intro k seen len len' f hk hsn hl h hO
    cases h
    unfold wX1_turns_106
    refine ⟨iI_in (by omega) (by omega) (by omega), b_t ?_ (hO f hl)⟩
    rw [nat_i (by omega)]
    show S.2.2.1 0 s ≤ _
    rw [e0, iI_le (by omega) (by omega) (by omega) (by omega)]; omega
  | succ m ih =>
    intro k seen len len' f hk hsn hl h hO
    unfold lnP at h
    cases hc : cyP rd 6 seen k 0 with
    | none => rw [hc] at h; cases h
    | some x =>
      obtain ⟨seen', c'⟩ := x
      rw [hc] at h
      have hin := cyP_in 6 _ _ _ _ _ hsn hc
      unfold wX1_turns_106
      refine ⟨iI_in (by omega) (by omega) (by omega), b_f ?_ ⟨6, ?_⟩⟩
      · rw [nat_i (by omega)]
        show ¬ S.2.2.1 0 s ≤ _
        rw [e0, iI_le (by omega) (by omega) (by omega) (by omega)]; omega
      · refine m_tu_124 (S := mA S 26 f) (n := (F s).length) (rd := rd) h5 (by omega) hrd 6 seen k 0 seen' c' (by omega) hsn hc ?_
        rw [mA_at, mA_mA]
        exact ih (k + 1) seen' _ len' _ (by omega) hin.1 (hl.up k c' (by omega)) h hO
theorem m_tu_80 {rc : (Unit → MS → Prop) → MS → Int32 → Int32 → Int32 → Prop} {post : Unit → MS → Prop} {S : MS} {s : Nat} (h : ∀ f : Nat → Int32, rLn f (fun _ => 0) → ∃ k, wX1_turns_106 rc post k (iI s) (0 : Int32) (0 : Int32) (mA S 26 f)) : ∀ (m k : Nat) (f : Nat → Int32), k + m = 5 → (∀ j, j < k → f j = iI 0) → wX1_turns_80 rc post (m + 1) (iI s) (iI k) (mA S 26 f) := by
  intro m
  induction m with
  | zero =>
    intro k f hk h1
    unfold wX1_turns_80
    exact b_t (by simp (disch := omega) only [iLit, lLit, iI_add, iI_sub, iI_mul, iI_neg, lI_add, lI_sub, lI_mul, lI_neg, nI_i, lI_i, iI_l, iI_nat, iI_lt, iI_le, iI_eq, lI_lt, lI_le, lI_eq] <;> omega) (h f (fun j hj => ⟨h1 j (by omega), Nat.zero_le _⟩))
  | succ m ih =>
    intro k f hk h1
    unfold wX1_turns_80
    refine b_f (by simp (disch := omega) only [iLit, lLit, iI_add, iI_sub, iI_mul, iI_neg, lI_add, lI_sub, lI_mul, lI_neg, nI_i, lI_i, iI_l, iI_nat, iI_lt, iI_le, iI_eq, lI_lt, lI_le, lI_eq] <;> omega) ⟨iI_in (by omega) (by omega) (by omega), ?_⟩
    rw [nat_i (by omega), mA_at, mA_mA, show iI (k : Int) + 1 = iI ((k + 1 : Nat) : Int) from iI_add k 1]
    refine ih (k + 1) _ (by omega) (fun j hj => ?_)
    by_cases e : j = k
    · rw [e, upd_eq]; rfl
    · rw [upd_ne _ _ _ e]; exact h1 j (by omega)
theorem m_leaf {rc : (Unit → MS → Prop) → MS → Int32 → Int32 → Int32 → Prop} {post : Unit → MS → Prop} {S : MS} {F : Nat → List tm} {s : Nat} {rd : Nat → Nat} {ks ks' : tks} (hF : mForms S F) (hs : s < 4) (hrd : rdR S rd (F s).length (F s).length) (hK : mKs S ks) (hL : lfP (ptL (pat (F s))) (F s).length rd ks = some ks') (h : ∀ S', tuEq S S' → S'.2.2.1 25 = S.2.2.1 25 → mKs S' ks' → post () S') : ∃ k, wX1_turns_80 rc post k (iI s) (0 : Int32) S := by
  unfold lfP at hL
  cases hln : lnP rd (F s).length 0 0 (fun _ => 0) with
  | none => rw [hln] at hL; cases hL
  | some len =>
    rw [hln] at hL
    simp only [] at hL
    split at hL
    · rename_i h8
      cases hL
      refine ⟨6, ?_⟩
      have := m_tu_80 (rc := rc) (post := post) (S := S) (s := s) (fun f hf => ⟨(F s).length + 1, ?_⟩) 5 0 (S.2.2.1 26) (by omega) (fun j hj => by omega)
      · rw [mA_id] at this; exact this
      · refine m_tu_106 hF hs hrd (F s).length 0 0 _ len f (by omega) (by omega) hf hln (fun f' hf' => ?_)
        refine m_sorts (hF.A (by omega) f') hs (by rw [mA_at]; exact hf') (fun f2 hf2 => ⟨ks.length + 1, ?_⟩)
        rw [mA_mA]
        have hl' : ∀ j, j < 5 → (mA S 26 f2).2.2.1 26 j = iI ([soA (ptL (pat (F s))) (F s).length (F s).length 0 len 0, soA (ptL (pat (F s))) (F s).length (F s).length 0 len 1, soA (ptL (pat (F s))) (F s).length (F s).length 0 len 2, soA (ptL (pat (F s))) (F s).length (F s).length 0 len 3, soA (ptL (pat (F s))) (F s).length (F s).length 0 len 4].getD j 0 : Nat) ∧ [soA (ptL (pat (F s))) (F s).length (F s).length 0 len 0, soA (ptL (pat (F s))) (F s).length (F s).length 0 len 1, soA (ptL (pat (F s))) (F s).length (F s).length 0 len 2, soA (ptL (pat (F s))) (F s).length (F s).length 0 len 3, soA (ptL (pat (F s))) (F s).length (F s).length 0 len 4].getD j 0 ≤ 100 := fun j hj => by
          rw [mA_at]
          have := hf2 j hj
          rcases (show j = 0 ∨ j = 1 ∨ j = 2 ∨ j = 3 ∨ j = 4 by omega) with e | e | e | e | e <;> subst e <;> exact this
        refine m_tu_181 (S := mA S 26 f2) rfl hl' ks [] hK (fun x hx => by cases hx) h8 (fun S' t1 t2 k1 => h S' ((tuEq.A (by omega) f2).trans t1) t2 k1)
    · cases hL
/-- what the recursive call owes -/
abbrev rcTu (rc : (Unit → MS → Prop) → MS → Int32 → Int32 → Int32 → Prop) (rcP : Nat → (Nat → Nat) → tks → Option tks) (F : Nat → List tm) (s i : Nat) : Prop := ∀ (post : Unit → MS → Prop) (S : MS) (used : Nat) (rd : Nat → Nat) (ks ks' : tks), rcP used rd ks = some ks' → used < 64 → mForms S F → rdR S rd (i + 1) (F s).length → mKs S ks → (∀ S', tuEq S S' → (∀ j, j < i + 1 → S'.2.2.1 25 j = S.2.2.1 25 j) → mKs S' ks' → post () S') → rc post S (iI s) (iI ((i + 1 : Nat) : Int)) (iI (used : Nat))
theorem m_tu_13 {rc : (Unit → MS → Prop) → MS → Int32 → Int32 → Int32 → Prop} {rcP : Nat → (Nat → Nat) → tks → Option tks} {post : Unit → MS → Prop} {F : Nat → List tm} {s i used : Nat} {rd : Nat → Nat} (hs : s < 4) (hi : i < (F s).length) (hu : used < 64) (hrc : rcTu rc rcP F s i) : ∀ (m o : Nat) (ks ks' : tks) (S : MS), o + m = (F s).length → mForms S F → rdR S rd i (F s).length → mKs S ks → tuL (ptL (pat (F s))) rcP i used rd m o ks = some ks' → (∀ S', tuEq S S' → (∀ j, j < i → S'.2.2.1 25 j = S.2.2.1 25 j) → mKs S' ks' → post () S') → wX1_turns_13 rc post (m + 1) (iI s) (iI i) (iI (used : Nat)) (iI o) S := by
  intro m
  induction m with
  | zero =>
    intro o ks ks' S ho hF hrd hK hT h
    obtain ⟨e0, hv, -⟩ := hF s hs
    have h5 := hv.1
    cases hT
    unfold wX1_turns_13
    refine ⟨iI_in (by omega) (by omega) (by omega), b_t ?_ (h S (tuEq.refl S) (fun _ _ => rfl) hK)⟩
    rw [nat_i (by omega), e0, iI_le (by omega) (by omega) (by omega) (by omega)]; omega
  | succ m ih =>
    intro o ks ks' S ho hF hrd hK hT h
    obtain ⟨e0, hv, -⟩ := hF s hs
    have h5 := hv.1
    unfold tuL at hT
    have o1 : iI (o : Int) + 1 = iI ((o + 1 : Nat) : Int) := iI_add o 1
    unfold wX1_turns_13
    refine ⟨iI_in (by omega) (by omega) (by omega), b_f ?_ ?_⟩
    · rw [nat_i (by omega), e0, iI_le (by omega) (by omega) (by omega) (by omega)]; omega
    · rw [bit_sh hu (by omega), show (1 : Int32) = iI 1 from rfl, iI_eq (by omega) (by omega) (by omega) (by omega)]
      refine ⟨fun e => ?_, fun e => ?_⟩
      · rw [if_pos (Or.inl (by omega))] at hT
        unfold wX1_turns_70
        rw [show iI (o : Int) + (1 : Int32) = iI ((o + 1 : Nat) : Int) from o1]
        exact ih (o + 1) ks ks' S (by omega) hF hrd hK hT h
      · refine m_areLike hF hs hi (by omega) (fun hp => b_f (by decide) ?_) (fun hp => b_t rfl ?_)
        · rw [if_neg (fun z => by rcases z with z | z; omega; rw [hp] at z; cases z)] at hT
          refine ⟨iI_in (by omega) (by omega) (by omega), ?_⟩
          have hb := bit_lt (k := (o : Int)) hu (by omega) (by omega)
          rw [show ((iI 1 : Int32) <<< (iI (o : Int) &&& 31)) = ((1 : Int32) <<< (iI (o : Int) &&& 31)) from rfl, bit_or hu (by omega) (by omega), nat_i (by omega), show iI (i : Int) + iI 1 = iI ((i + 1 : Nat) : Int) from iI_add i 1]
          rw [show ((o : Int)).toNat = o by omega] at hb ⊢
          cases hr : rcP (used ||| 1 <<< o) (upN rd i o) ks with
          | none => rw [hr] at hT; cases hT
          | some k2 =>
            rw [hr] at hT
            simp only [] at hT
            have t0 : tuEq S (mA S 25 (upd (S.2.2.1 25) i (iI (o : Nat)))) := tuEq.A (by omega) _
            refine hrc _ _ _ (upN rd i o) ks k2 hr hb (t0.forms hF) (fun j hj => ?_) hK (fun S' t1 t2 k3 => ?_)
            · rw [mA_at]
              unfold upN
              by_cases q : j = i
              · rw [if_pos q, q, upd_eq]; exact ⟨rfl, by omega⟩
              · rw [if_neg q, upd_ne _ _ _ q]; exact hrd j (by omega)
            · have fr : ∀ j, j < i → S'.2.2.1 25 j = S.2.2.1 25 j := fun j hj => by
                rw [t2 j (by omega), mA_at, upd_ne _ _ _ (by omega)]
              unfold wX1_turns_70
              rw [show iI (o : Int) + (1 : Int32) = iI ((o + 1 : Nat) : Int) from o1]
              exact ih (o + 1) k2 ks' S' (by omega) ((t0.trans t1).forms hF) (fun j hj => by rw [fr j hj]; exact hrd j hj) k3 hT (fun S'' t3 t4 k4 => h S'' ((t0.trans t1).trans t3) (fun j hj => (t4 j hj).trans (fr j hj)) k4)
        · rw [if_pos (Or.inr hp)] at hT
          unfold wX1_turns_70
          rw [show iI (o : Int) + (1 : Int32) = iI ((o + 1 : Nat) : Int) from o1]
          exact ih (o + 1) ks ks' S (by omega) hF hrd hK hT h
theorem m_turns {F : Nat → List tm} {s : Nat} (hs : s < 4) : ∀ (d i used : Nat) (rd : Nat → Nat) (ks ks' : tks) (post : Unit → MS → Prop) (S : MS), tuP (ptL (pat (F s))) (F s).length d i used rd ks = some ks' → i ≤ (F s).length → used < 64 → mForms S F → rdR S rd i (F s).length → mKs S ks → (∀ S', tuEq S S' → (∀ j, j < i → S'.2.2.1 25 j = S.2.2.1 25 j) → mKs S' ks' → post () S') → wX1_turns d post S (iI s) (iI i) (iI (used : Nat))
  | 0, _, _, _, _, _, _, _, h, _, _, _, _, _, _ => by cases h
  | d + 1, i, used, rd, ks, ks', post, S, hT, hi, hu, hF, hrd, hK, h => by
    obtain ⟨e0, hv, -⟩ := hF s hs
    have h5 := hv.1
    unfold tuP at hT
    show wX1_turnsB (fun post S x1 x2 x3 => wX1_turns d post S x1 x2 x3) post S (iI s) (iI i) (iI (used : Nat))
    unfold wX1_turnsB
    refine ⟨iI_in (by omega) (by omega) (by omega), ?_⟩
    rw [nat_i (by omega), e0, iI_le (by omega) (by omega) (by omega) (by omega)]
    refine ⟨fun e => ?_, fun e => ?_⟩
    · rw [if_neg (by omega)] at hT
      have hi' : i = (F s).length := by omega
      subst hi'
      exact m_leaf hF hs hrd hK hT (fun S' t1 t2 k1 => h S' t1 (fun j _ => by rw [t2]) k1)
    · rw [if_pos (by omega)] at hT
      refine ⟨(F s).length + 1, ?_⟩
      exact m_tu_13 (rcP := fun u r k => tuP (ptL (pat (F s))) (F s).length d (i + 1) u r k) hs (by omega) hu (fun post S used rd ks ks' h1 h2 h3 h4 h5 h6 => m_turns hs d (i + 1) used rd ks ks' post S h1 (by omega) h2 h3 h4 h5 h6) (F s).length 0 ks ks' S (by omega) hF hrd hK hT h
