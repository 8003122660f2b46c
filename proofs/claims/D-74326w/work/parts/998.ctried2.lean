set_option maxRecDepth 100000
set_option maxHeartbeats 4000000
/-! the component: rows of letters, tried -/
section
variable {K : Nat → Nat → Nat} {a : Nat → Nat}
abbrev nR (N : NM) (rx : Nat) (f : Nat → Int32) : NM := va_up N rx (some (eN 0 7 f))
theorem c_gn_2 {post : Int32 → NM → Prop} {S : CS} {N : NM} {rx l : Nat} {b : Int} (hL : ∀ f, cL K a S (nR N rx f)) (hl : l < 64) (h9 : S.1.2 9 = iI l) (hb : 0 ≤ b ∧ b ≤ 3) : ∀ (k : Nat) (lt : Nat → Int) (f : Nat → Int32), k ≤ 6 → gBd b lt → (∀ j, j < 6 → f j = iI (lt j)) → (∀ lt' f', gnR l b k lt = some lt' → (∀ j, j < 6 → f' j = iI (lt' j)) → post 1 (nR N rx f')) → (gnR l b k lt = none → ∀ f', post 0 (nR N rx f')) → wX0_goesOn_2 K post (k + 1) (a 0) rx (iI b) (iI ((k : Int) - 1)) (nR N rx f) := by
  intro k
  induction k with
  | zero =>
    intro lt f hk hB hf h1 h0
    unfold wX0_goesOn_2
    exact b_t (by decide) (h0 rfl f)
  | succ k ih =>
    intro lt f hk hB hf h1 h0
    have e : ((k + 1 : Nat) : Int) - 1 = (k : Nat) := by omega
    rw [e]
    have lk := hB k (by omega)
    unfold wX0_goesOn_2
    refine b_f (by simp (disch := omega) only [iLit, lLit, iI_add, iI_sub, iI_mul, iI_neg, lI_add, lI_sub, lI_mul, lI_neg, nI_i, lI_i, iI_l, iI_nat, iI_lt, iI_le, iI_eq, lI_lt, lI_le, lI_eq] <;> omega) ⟨_, _, _, _, _, _, _, _, _, _, _, _, _, _, _, _, _, _, _, (hL f).obj, ?_⟩
    rw [h9, bit_sh hl (by omega)]
    unfold gnR at h1 h0
    by_cases q : l / 2 ^ k % 2 = 0
    · rw [if_pos q] at h1 h0
      refine b_t (by rw [q]; rfl) ?_
      unfold wX0_goesOn_41
      rw [iI_pred]
      exact ih lt f (by omega) hB hf h1 h0
    · rw [if_neg q] at h1 h0
      have q1 : l / 2 ^ k % 2 = 1 := by have := Nat.mod_lt (l / 2 ^ k) (show 0 < 2 by omega); omega
      refine b_f (by rw [q1]; decide) ⟨_, _, up_eq _ _ _, iI_in (by omega) (by omega) (by omega), ?_⟩
      rw [nat_i (by omega), hf k (by omega), iI_le (by omega) (by omega) (by omega) (by omega)]
      have put : ∀ v : Int, ∀ j, j < 6 → upd f k (iI v) j = iI (upZ lt k v j) := fun v j hj => by
        by_cases e : j = k
        · rw [e, upd_eq, upZ_s]
        · rw [upd_ne _ _ _ e, upZ_n _ _ e]; exact hf j hj
      refine ⟨fun z => ⟨iI_in (by omega) (by omega) (by omega), fun N2 e2 => ?_⟩, fun z => ⟨iI_in (by omega) (by omega) (by omega), iI_in (by omega) (by omega) (by omega), fun N2 e2 => ?_⟩⟩
      · rw [if_neg (by omega)] at h1 h0
        have e2 : N2 = nR N rx (upd f k (iI (-b))) := by
          rw [e2, show -iI b = iI (-b) from iI_neg b]
          exact up_up ..
        subst e2
        unfold wX0_goesOn_41
        rw [iI_pred]
        exact ih _ _ (by omega) (hB.up (by omega) (by omega)) (put (-b)) h1 h0
      · rw [if_pos (by omega)] at h1 h0
        have e2 : N2 = nR N rx (upd f k (iI (lt k + 1))) := by
          rw [e2, show iI (lt k) + (1 : Int32) = iI (lt k + 1) from iI_add _ 1]
          exact up_up ..
        subst e2
        exact h1 _ _ rfl (put _)
theorem c_goesOn {post : Int32 → NM → Prop} {S : CS} {N : NM} {rx l : Nat} {b : Int} {lt : Nat → Int} {f : Nat → Int32} (hL : ∀ f, cL K a S (nR N rx f)) (hl : l < 64) (h9 : S.1.2 9 = iI l) (hb : 0 ≤ b ∧ b ≤ 3) (hB : gBd b lt) (hf : ∀ j, j < 6 → f j = iI (lt j)) (h1 : ∀ lt' f', gnR l b 6 lt = some lt' → (∀ j, j < 6 → f' j = iI (lt' j)) → post 1 (nR N rx f')) (h0 : gnR l b 6 lt = none → ∀ f', post 0 (nR N rx f')) : wX0_goesOn K post (nR N rx f) (a 0) rx (iI b) := ⟨7, c_gn_2 hL hl h9 hb 6 lt f (by omega) hB hf h1 h0⟩
theorem c_tr_82 {post : Int32 → NM → Prop} {S : CS} {N : NM} {rx e p l mc ms : Nat} {C : List (Int × Int)} {b what : Int} (hL : ∀ f, cL K a S (nR N rx f)) (hI : ∀ f, cIdn S (nR N rx f) e C p l) (hl : l < 64) (hb : 0 ≤ b ∧ b ≤ 3) (hw : 0 ≤ what ∧ what ≤ 7) : ∀ (m : Nat) (lt : Nat → Int) (n : Int) (f : Nat → Int32), trN l b m lt → gBd b lt → (∀ j, j < 6 → f j = iI (lt j)) → 0 ≤ n → n + m ≤ 1000000 → (what = 0 ∨ n = 0) → (∀ f', post (iI (trA what (trR e C l b m n none lt))) (nR N rx f')) → wX0_tried_82 K post m (a 0) (iI b) (iI what) rx (iI n) mc ms (nR N rx f) := by
  intro m
  induction m with
  | zero => intro lt n f h; exact h.elim
  | succ m ih =>
    intro lt n f hN hB hf hn hm hz h
    have h9 : S.1.2 9 = iI l := (hI f).1
    have hlt : ∀ k, k < 6 → -100 ≤ lt k ∧ lt k ≤ 100 := fun k hk => by have := hB k hk; omega
    -- behind a row: the next one
    have next : ∀ (n' : Int) (f1 : Nat → Int32), 0 ≤ n' → n' ≤ n + 1 → (what = 0 ∨ n' = 0) → (∀ j, j < 6 → f1 j = iI (lt j)) → (gnR l b 6 lt = none → (what = 0 → ∀ f', post (iI n') (nR N rx f')) ∧ (what ≠ 0 → ∀ f', post (iI (-100000)) (nR N rx f'))) → (∀ lt', gnR l b 6 lt = some lt' → ∀ f', post (iI (trA what (trR e C l b m n' none lt'))) (nR N rx f')) → wX0_tried_128 K (fun x0 x1 x2 x3 x4 mc ms N => wX0_tried_82 K post m x0 x1 x2 x3 x4 mc ms N) post (a 0) (iI b) (iI what) rx (iI n') mc ms (nR N rx f1) := fun n' f1 n1 n2 n3 hf1 g0 g1 => by
      unfold wX0_tried_128
      refine ⟨_, _, _, _, _, _, _, _, _, _, _, _, _, _, _, _, _, _, _, (hL f1).obj, c_goesOn hL hl h9 hb hB hf1 (fun lt' f' eg hf' => b_f (by decide) ?_) (fun eg f' => b_t rfl ?_)⟩
      · have hN' : trN l b m lt' := by
          have hN : (match gnR l b 6 lt with
            | none => True
            | some lt' => trN l b m lt') := hN
          rw [eg] at hN; exact hN
        exact ih lt' n' f' hN' (gn_more hb.1 6 lt lt' (by omega) hB eg).1 hf' n1 (by omega) n3 (g1 lt' eg)
      · rw [show (0 : Int32) = iI 0 from rfl, iI_eq (by omega) (by omega) (by omega) (by omega)]
        exact ⟨fun q => (g0 eg).1 q f', fun q => (g0 eg).2 q f'⟩
    unfold wX0_tried_82
    refine ⟨_, _, _, _, _, _, _, _, _, _, _, _, _, _, _, _, _, _, _, (hL f).obj, 0, 0, Nat.zero_le _, Nat.zero_le _, ?_⟩
    refine c_isBroken (hL f) (hI f) hlt (up_eq _ _ _) hf ?_
    have eup : ∀ v, va_up (nR N rx f) rx (some (eN 0 7 (upd f 6 v))) = nR N rx (upd f 6 v) := fun v => up_up ..
    rw [eup]
    have hf1 : ∀ v, ∀ j, j < 6 → (upd f 6 v) j = iI (lt j) := fun v j hj => by rw [upd_ne _ _ _ (by omega)]; exact hf j hj
    unfold trR at h
    by_cases q : bkS e C lt = 0
    · simp only [if_pos q] at h
      rw [if_pos q]
      refine b_t rfl (next n _ hn (by omega) hz (hf1 _) (fun eg => ?_) (fun lt' eg f' => ?_))
      · rw [eg] at h
        unfold trA at h
        exact ⟨fun w f' => by have := h f'; rw [if_pos w] at this; exact this, fun w f' => by have := h f'; rw [if_neg w] at this; exact this⟩
      · rw [eg] at h
        exact h f'
    · simp only [if_neg q] at h
      rw [if_neg q]
      refine b_f (by decide) ?_
      rw [show (0 : Int32) = iI 0 from rfl, iI_le (by omega) (by omega) (by omega) (by omega)]
      refine ⟨fun w => ?_, fun w => ?_⟩
      · have w0 : what = 0 := by omega
        subst w0
        rw [show iI n + (1 : Int32) = iI (n + 1) from iI_add n 1]
        refine next (n + 1) _ (by omega) (by omega) (Or.inl rfl) (hf1 _) (fun eg => ⟨fun _ f' => ?_, fun w => absurd rfl w⟩) (fun lt' eg f' => ?_)
        · rw [eg] at h
          exact h f'
        · rw [eg] at h
          have := h f'
          unfold trA at this ⊢
          rw [if_pos rfl] at this ⊢
          have e0 := trR_n e C l b m (n + 1) (none.or (some (lt, if bkS e C lt = 2 then 1 else 0))) none lt'
          rw [← e0]
          exact this
      · have hh : ∀ f', post (iI (if what = 7 then (if bkS e C lt = 2 then 1 else 0) else lt (what - 1).toNat)) (nR N rx f') := fun f' => by
          have := h f'
          cases eg : gnR l b 6 lt with
          | none =>
            rw [eg] at this
            unfold trA at this
            rw [if_neg (by omega)] at this
            exact this
          | some lt' =>
            rw [eg] at this
            unfold trA at this
            rw [if_neg (by omega)] at this
            have e1 := trR_fs e C l b (lt, if bkS e C lt = 2 then 1 else 0) m (n + 1) lt'
            have e2 : (trR e C l b m (n + 1) (none.or (some (lt, if bkS e C lt = 2 then 1 else 0))) lt').2 = some (lt, if bkS e C lt = 2 then 1 else 0) := e1
            simp only [e2] at this
            exact this
        rw [show (7 : Int32) = iI 7 from rfl, iI_le (by omega) (by omega) (by omega) (by omega)]
        refine ⟨fun w7 => ⟨_, _, _, _, _, _, _, _, _, _, _, _, _, _, _, _, _, _, _, (hL _).obj, 0, 0, Nat.zero_le _, Nat.zero_le _, ?_⟩, fun w7 => ⟨_, _, up_eq _ _ _, ?_⟩⟩
        · have e7 : what = 7 := by omega
          simp only [if_pos e7] at hh
          unfold wX0_isBeyond
          refine ⟨_, _, _, _, _, _, _, _, _, _, _, _, _, _, _, _, _, _, _, (hL _).obj, 0, 0, Nat.zero_le _, Nat.zero_le _, ?_⟩
          refine c_isBroken (hL _) (hI _) hlt (up_eq _ _ _) (hf1 _) ?_
          have eup2 : ∀ g v, va_up (nR N rx g) rx (some (eN 0 7 (upd g 6 v))) = nR N rx (upd g 6 v) := fun g v => up_up ..
          rw [eup2, upd_upd]
          refine ⟨_, _, up_eq _ _ _, iI_in (z := 6) (by omega) (by omega) (by omega), ?_⟩
          rw [show (6 : Int32).toNatClampNeg = 6 by decide, upd_eq]
          by_cases q2 : bkS e C lt = 2
          · rw [if_pos q2]
            rw [if_pos q2] at hh
            exact b_t rfl (b_f (by decide) (hh _))
          · rw [if_neg q2]
            rw [if_neg q2] at hh
            exact b_f (by decide) (b_t rfl (hh _))
        · rw [show iI what - (1 : Int32) = iI (what - 1) from iI_sub what 1, iI_nat (by omega) (by omega)]
          refine ⟨iI_in (by omega) (by omega) (by omega), ?_⟩
          rw [hf1 _ _ (by omega)]
          have := hh (upd f 6 (if bkS e C lt = 2 then 1 else 0))
          rw [if_neg (by omega)] at this
          exact this
theorem c_tr_43 {post : Int32 → NM → Prop} {S : CS} {N : NM} {rx e p l mc ms : Nat} {C : List (Int × Int)} {b what : Int} (hL : ∀ f, cL K a S (nR N rx f)) (hI : ∀ f, cIdn S (nR N rx f) e C p l) (hl : l < 64) (hb : 0 ≤ b ∧ b ≤ 3) (hw : 0 ≤ what ∧ what ≤ 7) (h : ∀ f', post (iI (trS e C l b what)) (nR N rx f')) : ∀ (m k : Nat) (f : Nat → Int32), k + m = 6 → (∀ j, j < k → f j = iI (lt0 l b j)) → wX0_tried_43 K post (m + 1) (a 0) (iI b) (iI what) rx (iI k) mc ms (nR N rx f) := by
  have h9 : S.1.2 9 = iI l := (hI (fun _ => 0)).1
  intro m
  induction m with
  | zero =>
    intro k f hk hf
    unfold wX0_tried_43
    refine b_t (by simp (disch := omega) only [iLit, lLit, iI_add, iI_sub, iI_mul, iI_neg, lI_add, lI_sub, lI_mul, lI_neg, nI_i, lI_i, iI_l, iI_nat, iI_lt, iI_le, iI_eq, lI_lt, lI_le, lI_eq] <;> omega) ⟨117650, ?_⟩
    have hB : gBd b (lt0 l b) := fun j hj => by unfold lt0; split <;> omega
    refine c_tr_82 hL hI hl hb hw 117650 (lt0 l b) 0 f (trN_ok hb _ _ hB ?_) hB (fun j hj => hf j (by omega)) (by omega) (by omega) (Or.inr rfl) h
    have hg : ∀ k : Nat, k ≤ 6 → 0 ≤ gZM b k (lt0 l b) := fun k => by
      induction k with
      | zero => intro _; exact Int.le_refl 0
      | succ k ih =>
        intro hk
        have h1 := ih (by omega)
        have h2 := hB k (by omega)
        show 0 ≤ gZM b k (lt0 l b) * (2 * b + 1) + (lt0 l b k + b)
        have h3 := Int.mul_nonneg h1 (show 0 ≤ 2 * b + 1 by omega)
        omega
    have := hg 6 (by omega)
    omega
  | succ m ih =>
    intro k f hk hf
    have put : ∀ v : Int, v = lt0 l b k → wX0_tried_72 K (fun x0 x1 x2 x3 x4 mc ms N => wX0_tried_43 K post (m + 1) x0 x1 x2 x3 x4 mc ms N) post (a 0) (iI b) (iI what) rx (iI k) (iI v) (iI k) rx mc ms (nR N rx f) := fun v hv => by
      unfold wX0_tried_72
      refine ⟨_, _, up_eq _ _ _, iI_in (by omega) (by omega) (by omega), fun N2 e2 => ?_⟩
      have e2 : N2 = nR N rx (upd f k (iI v)) := by
        rw [e2, nat_i (by omega)]
        exact up_up ..
      subst e2
      rw [show iI (k : Int) + 1 = iI ((k + 1 : Nat) : Int) from iI_add k 1]
      refine ih (k + 1) _ (by omega) (fun j hj => ?_)
      by_cases c : j = k
      · rw [c, upd_eq, hv]
      · rw [upd_ne _ _ _ c]; exact hf j (by omega)
    unfold wX0_tried_43
    refine b_f (by simp (disch := omega) only [iLit, lLit, iI_add, iI_sub, iI_mul, iI_neg, lI_add, lI_sub, lI_mul, lI_neg, nI_i, lI_i, iI_l, iI_nat, iI_lt, iI_le, iI_eq, lI_lt, lI_le, lI_eq] <;> omega) ⟨_, _, _, _, _, _, _, _, _, _, _, _, _, _, _, _, _, _, _, (hL f).obj, ?_⟩
    rw [h9, bit_sh hl (by omega), show (1 : Int32) = iI 1 from rfl, iI_eq (by omega) (by omega) (by omega) (by omega)]
    refine ⟨fun q => ?_, fun q => ?_⟩
    · rw [iI_neg]
      exact put (-b) (by unfold lt0; rw [if_pos (by omega)])
    · exact put 0 (by unfold lt0; rw [if_neg (by omega)])
theorem c_tried {post : Int32 → NM → Prop} {MC MS : Nat} {S : CS} {N : NM} {b what : Int} {J : Nat → List (Int × Int) → Nat → Nat → Prop} (hL : cL K a S N) (hb : i32 b) (hw : i32 what) (hMC : 1 ≤ MC) (hMS : 7 ≤ MS) (hI : S.1.1 7 = none ∨ ∃ e C p l, cIdn S N e C p l ∧ J e C p l) (hl : ∀ e C p l, J e C p l → l < 64) (h0 : ¬ (S.1.1 7 ≠ none ∧ 0 ≤ b ∧ b ≤ 3 ∧ 0 ≤ what ∧ what ≤ 7) → post (iI (-100000)) N) (h1 : 0 ≤ b → b ≤ 3 → 0 ≤ what → what ≤ 7 → ∀ e C p l, J e C p l → ∀ N', nw N N' → post (iI (trS e C l b what)) N') : wX0_tried K post MC MS N (a 0) (iI b) (iI what) := by
  unfold wX0_tried
  refine ⟨_, _, _, _, _, _, _, _, _, _, _, _, _, _, _, _, _, _, _, hL.obj, fun e => h0 (fun z => z.1 e), fun q e => ?_⟩
  have hne : S.1.1 7 ≠ none := by
    have e' : S.1.1 7 = some q := e
    rw [e']; simp
  rw [iI_l hb.1 hb.2, iI_l hw.1 hw.2]
  refine c_isIn (b := 0) (c := 3) (by omega) (by omega) (by omega) (fun b1 b2 => b_f (by decide) ?_) (fun c => b_t rfl (h0 (fun z => c ⟨z.2.1, z.2.2.1⟩)))
  refine c_isIn (b := 0) (c := 7) (by omega) (by omega) (by omega) (fun w1 w2 => b_f (by decide) ?_) (fun c => b_t rfl (h0 (fun z => c z.2.2.2)))
  have e7 : (7 : Int32).toNatClampNeg = 7 := by decide
  rw [e7]
  refine ⟨by decide, by omega, hMC, hMS, fun rx hrx N34 e34 => ⟨7, ?_⟩⟩
  subst e34
  have n1 : ∀ g', nw N (nR N rx g') := fun g' => (nw.refl N).new hrx _
  obtain ⟨e, C, p, l, hid, hj⟩ : ∃ e C p l, cIdn S N e C p l ∧ J e C p l := by
    rcases hI with z | z
    · exact absurd z hne
    · exact z
  have hid0 := hid
  obtain ⟨i1, i2, ql, qr, i3, i4, i5, i6⟩ := hid
  refine c_tr_43 (e := e) (C := C) (p := p) (l := l) (fun f => hL.nw (n1 f)) (fun f => ⟨i1, i2, ql, qr, i3, i4, cSm.keep (fun z c fs hz _ => n1 f _ _ hz) 200 ql _ i5, cSm.keep (fun z c fs hz _ => n1 f _ _ hz) 200 qr _ i6⟩) (hl e C p l hj) ⟨b1, b2⟩ ⟨w1, w2⟩ (fun f' => h1 b1 b2 w1 w2 e C p l hj _ (n1 f')) 6 0 (fun _ => 0) (by omega) (fun j hj => by omega)
end
