set_option maxRecDepth 100000
set_option maxHeartbeats 4000000
/-! the component's reader: what must be; numbers -/
abbrev oWr (f1 f2 f3 f4 : Option Nat) (g : Int32) (w p : Int) : NE := eO 3 [va_rf none, va_rf f1, va_rf f2, va_rf f3, va_rf f4, .int g, .int (iI w), .int (iI p)]
section
variable {K : Nat → Nat → Nat} {a : Nat → Nat}
theorem c_must {post : Unit → NM → Prop} {xp : Nat → List Nat → NM → Prop} {MC MS x : Nat} {N : NM} {ok : Int32} {w p : Int} (hMC : 1 ≤ MC) (hMS : 8 ≤ MS) (h1 : ok ≠ 0 → post () N) (h0 : ok = 0 → ∀ q f1 f2 f3 f4 g, N q = none → xp q [q] (va_up N q (some (oWr f1 f2 f3 f4 g w p)))) : wX2_must K post xp MC MS N x ok (iI w) (iI p) := by
  unfold wX2_must
  refine ⟨fun e => ⟨hMC, hMS, fun nq hnq N6 e6 => ?_⟩, fun e => h1 e⟩
  subst e6
  unfold wX3_init wJ2_init_2_w wJ1_init_3_w
  refine ⟨_, _, _, _, _, _, _, _, up_eq _ _ _, fun N10 e10 z13 N15 e15 z18 N20 e20 => ⟨fun _ N24 e24 => ?_, fun c => absurd rfl c⟩⟩
  rw [up_up] at e10
  rw [e10, up_up] at e15
  rw [e15, up_up] at e20
  rw [e20, up_up] at e24
  subst e24
  unfold wJ1_init_3_w_41
  refine ⟨_, _, _, _, _, _, _, _, up_eq _ _ _, fun N36 e36 N39 e39 => ⟨fun _ N43 e43 => ?_, fun c => absurd rfl c⟩⟩
  rw [up_up] at e36
  rw [e36, up_up] at e39
  rw [e39, up_up] at e43
  subst e43
  refine ⟨_, _, _, _, _, _, _, _, up_eq _ _ _, fun N12 e12 N15' e15' => ?_⟩
  rw [up_up] at e12
  rw [e12, up_up] at e15'
  subst e15'
  exact ⟨_, _, _, _, _, _, _, _, up_eq _ _ _, h0 e nq _ _ _ _ _ hnq⟩
theorem srt2 {T : Nat → Int} {n p : Nat} : srt T n p = 2 ↔ isD (chr T n p) = true := by
  unfold srt chr
  by_cases c : n ≤ p
  · rw [if_pos c, if_neg (by omega)]
    exact ⟨fun e => by omega, fun e => absurd e (by decide)⟩
  · rw [if_neg c, if_pos (show p < n by omega)]
    by_cases c1 : isL (T p) = true
    · rw [if_pos c1]
      refine ⟨fun e => by omega, fun e => ?_⟩
      have h1 := (isL_iff _).1 c1
      have h2 := (isD_iff _).1 e
      omega
    · rw [if_neg c1]
      by_cases c2 : isD (T p) = true
      · rw [if_pos c2]; exact ⟨fun _ => c2, fun _ => rfl⟩
      · rw [if_neg c2]; exact ⟨fun e => by omega, fun e => absurd e c2⟩
theorem c_num_23 {post : Int32 → NM → Prop} {xp : Nat → List Nat → NM → Prop} {S : CS} {N : NM} {T : Nat → Int} {n p x E mc ms : Nat} {b d : Int32} (hL : cL K a S N) (hT : cTape S T n) (hx : N x = some (rdr a p b d)) (hpn : p < n) (hmc : 1 ≤ mc) (hms : 8 ≤ ms) (hE : E ≤ n)
    (h1 : E ≤ p + 4 → post (iI (valE 10 48 T p (min 4 (E - p)))) (va_up N x (some (rdr a (sk T n E) (iI (p : Nat)) d)))) (h0 : ¬ E ≤ p + 4 → ∀ e q f1 f2 f3 f4 g, N q = none → xp q [q] (va_up (va_up N x (some e)) q (some (oWr f1 f2 f3 f4 g 1 p)))) : ∀ (m q : Nat), q + m = n → p ≤ q → (∀ j, p ≤ j → j < q → isD (chr T n j) = true) → runE isD T n m q = E → wX2_number_23 K post xp (m + 1) x (iI (valE 10 48 T p (min 4 (q - p)))) mc ms (va_up N x (some (rdr a q (iI (p : Nat)) d))) := by
  have ht := hT.1
  have fin : ∀ q : Nat, q = E → p ≤ q → ∃ f43 f44 f45 f46, (va_up N x (some (rdr a q (iI (p : Nat)) d))) x = some (eO 2 [.int f43, .int f44, .int f45, va_rf f46]) ∧ (((4 < (f43 - f44)) → (wX2_number_88 K post xp x (iI (valE 10 48 T p (min 4 (q - p)))) 0 x mc ms (va_up N x (some (rdr a q (iI (p : Nat)) d))))) ∧ (¬ (4 < (f43 - f44)) → (wX2_number_88 K post xp x (iI (valE 10 48 T p (min 4 (q - p)))) 1 x mc ms (va_up N x (some (rdr a q (iI (p : Nat)) d)))))) := by
    intro q eq hpq
    refine ⟨_, _, _, _, up_eq _ _ _, ?_⟩
    rw [iI_sub, show (4 : Int32) = iI 4 from rfl, iI_lt (by omega) (by omega) (by omega) (by omega)]
    have hL' := hL.rd hx (rdr a q (iI (p : Nat)) d)
    refine ⟨fun c => ?_, fun c => ?_⟩
    · unfold wX2_number_88
      refine ⟨_, _, _, _, up_eq _ _ _, _, _, _, _, up_eq _ _ _, mc, ms, Nat.le_refl _, Nat.le_refl _, ?_⟩
      rw [show (1 : Int32) = iI 1 from rfl]
      refine c_must hmc hms (fun e => absurd rfl e) (fun _ r f1 f2 f3 f4 g hr fs hfs => ?_)
      have hr' : N r = none := by
        by_cases c : r = x
        · rw [c, up_eq] at hr; cases hr
        · rw [up_ne _ _ _ c] at hr; exact hr
      exact h0 (by omega) _ r f1 f2 f3 f4 g hr'
    · unfold wX2_number_88
      refine ⟨_, _, _, _, up_eq _ _ _, _, _, _, _, up_eq _ _ _, mc, ms, Nat.le_refl _, Nat.le_refl _, ?_⟩
      rw [show (1 : Int32) = iI 1 from rfl]
      refine c_must hmc hms (fun _ => ⟨_, _, _, _, up_eq _ _ _, c_skips hL' hT (up_eq _ _ _) (by omega) ?_⟩) (fun e => absurd e (by decide))
      rw [up_up, eq]
      exact h1 (by omega)
  intro m
  induction m with
  | zero =>
    intro q hq hpq hd hr
    have hL' := hL.rd hx (rdr a q (iI (p : Nat)) d)
    unfold wX2_number_23
    refine ⟨_, _, _, _, up_eq _ _ _, c_isDigit hL' hT (up_eq _ _ _) (by omega) (fun e => ?_) (fun e => b_t rfl (fin q hr hpq))⟩
    have : chr T n q = -1 := by unfold chr; rw [if_neg (by omega)]
    rw [this] at e
    exact absurd e (by decide)
  | succ m ih =>
    intro q hq hpq hd hr
    have hL' := hL.rd hx (rdr a q (iI (p : Nat)) d)
    unfold runE at hr
    unfold wX2_number_23
    refine ⟨_, _, _, _, up_eq _ _ _, c_isDigit hL' hT (up_eq _ _ _) (by omega) (fun e => b_f (by decide) ?_) (fun e => b_t rfl (fin q (by rw [if_neg (by rw [e]; decide)] at hr; exact hr) hpq))⟩
    rw [if_pos e] at hr
    have hq1 := chr_of (P := isD) (by decide) e
    have hdd := (isD_iff _).1 e
    rw [hq1.2] at hdd
    have st : ∀ v, v = valE 10 48 T p (min 4 (q + 1 - p)) → wX2_number_56 K (fun x0 x1 mc ms N => wX2_number_23 K post xp (m + 1) x0 x1 mc ms N) post xp x (iI v) mc ms (va_up N x (some (rdr a q (iI (p : Nat)) d))) := by
      intro v hv
      unfold wX2_number_56
      refine ⟨_, _, _, _, up_eq _ _ _, fun N89 e89 => ?_⟩
      rw [up_up, show iI (q : Int) + 1 = iI ((q + 1 : Nat) : Int) by rw [show (1 : Int32) = iI 1 from rfl, iI_add]; rfl] at e89
      subst e89
      rw [hv]
      refine ih (q + 1) (by omega) (by omega) (fun j j1 j2 => ?_) hr
      by_cases c : j = q
      · rw [c]; exact e
      · exact hd j j1 (by omega)
    refine ⟨_, _, _, _, up_eq _ _ _, ?_⟩
    rw [iI_sub, show (4 : Int32) = iI 4 from rfl, iI_le (by omega) (by omega) (by omega) (by omega)]
    refine ⟨fun c => st _ ?_, fun c => c_here hL' hT (up_eq _ _ _) (by omega) ?_⟩
    · rw [show min 4 (q - p) = 4 by omega, show min 4 (q + 1 - p) = 4 by omega]
    · rw [show (10 : Int32) = iI 10 from rfl, show (48 : Int32) = iI 48 from rfl, iI_mul, iI_add, iI_sub, hq1.2]
      refine st _ ?_
      rw [show min 4 (q - p) = q - p by omega, show min 4 (q + 1 - p) = (q - p) + 1 by omega]
      show _ = 10 * valE 10 48 T p (q - p) + (T (p + (q - p)) - 48)
      rw [show p + (q - p) = q by omega]
      omega
theorem c_rdNum {post : Int32 → NM → Prop} {xp : Nat → List Nat → NM → Prop} {S : CS} {N : NM} {T : Nat → Int} {n p x MC MS : Nat} {b d : Int32} (hL : cL K a S N) (hT : cTape S T n) (hx : N x = some (rdr a p b d)) (hpn : p ≤ n) (hmc : 2 ≤ MC) (hms : 16 ≤ MS)
    (h1 : isNb T n p → post (iI (numV T n p)) (va_up N x (some (rdr a (nxT T n p) (iI (p : Nat)) d)))) (h0 : ¬ isNb T n p → ∀ e q f1 f2 f3 f4 g, N q = none → xp q [q] (va_up (va_up N x (some e)) q (some (oWr f1 f2 f3 f4 g 1 p)))) : wX2_number K post xp MC MS N x := by
  have ht := hT.1
  unfold wX2_number
  refine ⟨_, _, _, _, hx, c_isDigit hL hT hx (by omega) (fun e => ⟨_, _, _, _, hx, 1, 8, by omega, by omega, ?_⟩) (fun e => ⟨_, _, _, _, hx, 1, 8, by omega, by omega, ?_⟩)⟩
  · have hs : srt T n p = 2 := srt2.2 e
    have hq1 := chr_of (P := isD) (by decide) e
    have he : ende T n p = runE isD T n (n - p) p := by
      unfold srt at hs
      unfold ende
      rw [if_neg (by omega)] at hs ⊢
      by_cases c1 : isL (T p) = true
      · rw [if_pos c1] at hs; omega
      · rw [if_neg c1] at hs ⊢
        by_cases c2 : isD (T p) = true
        · rw [if_pos c2]
        · rw [if_neg c2] at hs; omega
    have hle := runE_le isD T n (n - p) p
    rw [show (1 : Int32) = iI 1 from rfl]
    refine c_must (by omega) (by omega) (fun _ => ⟨_, _, _, _, hx, fun N31 e31 => ⟨n - p + 1, ?_⟩⟩) (fun c => absurd c (by decide))
    subst e31
    have := c_num_23 (post := post) (xp := xp) (K := K) (E := ende T n p) (mc := MC - 1) (ms := MS - 8) hL hT hx hq1.1 (by omega) (by omega) (by omega) (fun c => ?_) (fun c e' q f1 f2 f3 f4 g hq => h0 (fun z => c z.2) e' q f1 f2 f3 f4 g hq) (n - p) p (by omega) (Nat.le_refl _) (fun j j1 j2 => by omega) he.symm
    · rw [show min 4 (p - p) = 0 by omega] at this
      exact this
    · have hh := h1 ⟨hs, c⟩
      unfold numV nxT at hh
      rw [if_pos hs] at hh
      exact hh
  · have hs : ¬ isNb T n p := fun z => by
      have := srt2.1 z.1
      rw [e] at this; cases this
    rw [show (1 : Int32) = iI 1 from rfl]
    refine c_must (by omega) (by omega) (fun c => absurd rfl c) (fun _ q f1 f2 f3 f4 g hq fs hfs => ?_)
    have := h0 hs (rdr a p b d) q f1 f2 f3 f4 g hq
    rw [up_self hx] at this
    exact this
end
