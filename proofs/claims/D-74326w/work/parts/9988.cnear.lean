set_option maxRecDepth 100000
set_option maxHeartbeats 4000000
/-! nearest: plain -/
def kzN (n z : Int) : Int := (if n ≤ z then z - n else n - z) * 65536 + z
theorem nearR_at {w : Int → Int} {n F : Int} (h2 : ¬ (w (n - F) = 0 ∧ w (n + F) = 0)) : ∀ (m : Nat) (far : Int), far ≤ F → F < far + m → (∀ d, far ≤ d → d < F → w (n - d) = 0 ∧ w (n + d) = 0) → nearR w n m far = if w (n - F) ≤ 0 then n + F else n - F
  | 0, _, h3, h4, _ => by omega
  | m + 1, far, h3, h4, h5 => by
    unfold nearR
    by_cases c : far = F
    · rw [c, if_neg h2]
    · rw [if_pos (h5 far (by omega) (by omega))]
      exact nearR_at h2 m (far + 1) (by omega) (by omega) (fun d d1 d2 => h5 d (by omega) d2)
def upNr (w : Int → Int) (n U : Int) : Prop := n ≤ U ∧ U ≤ 15001 ∧ (∀ z, n ≤ z → z < U → w z = 0) ∧ (U ≤ 15000 → w U ≠ 0)
def dnNr (w : Int → Int) (n D : Int) : Prop := D ≤ n ∧ -15001 ≤ D ∧ (∀ z, z ≤ n → D < z → w z = 0) ∧ (-15000 ≤ D → w D ≠ 0)
theorem near_c {w : Int → Int} {n U D z : Int} (hn : -3000 ≤ n ∧ n ≤ 3000) (hw : ∀ z, 0 ≤ w z) (h0 : ∀ z, z < -15000 ∨ 15000 < z → w z = 0) (hU : upNr w n U) (hD : dnNr w n D) (hz : (z = U ∧ U ≤ 15000) ∨ (z = D ∧ -15000 ≤ D)) (hm : ∀ z', (z' = U ∧ U ≤ 15000) ∨ (z' = D ∧ -15000 ≤ D) → kzN n z ≤ kzN n z') : nearS w n = z := by
  obtain ⟨u1, u2, u3, u4⟩ := hU
  obtain ⟨d1, d2, d3, d4⟩ := hD
  unfold nearS
  have hup : ∀ z, n ≤ z → 15000 < z ∨ z < U → w z = 0 := fun z z1 z2 => by
    rcases z2 with z2 | z2
    · exact h0 z (Or.inr z2)
    · exact u3 z z1 z2
  have hdn : ∀ z, z ≤ n → z < -15000 ∨ D < z → w z = 0 := fun z z1 z2 => by
    rcases z2 with z2 | z2
    · exact h0 z (Or.inl z2)
    · exact d3 z z1 z2
  have kU : kzN n U = (U - n) * 65536 + U := by unfold kzN; rw [if_pos u1]
  have kD : kzN n D = (n - D) * 65536 + D := by
    unfold kzN
    by_cases c : n ≤ D
    · rw [if_pos c, show D = n by omega]
    · rw [if_neg c]
  by_cases cU : U ≤ 15000 ∧ (U - n < n - D ∨ D < -15000)
  · have e1 : z = U := by
      rcases hz with hz | hz
      · exact hz.1
      · have := hm U (Or.inl ⟨rfl, cU.1⟩)
        rw [kU, hz.1, kD] at this
        omega
    have hz0 : w (n - (U - n)) = 0 := hdn _ (by omega) (by omega)
    rw [nearR_at (F := U - n) (fun e => u4 cU.1 (by rw [show U = n + (U - n) by omega]; exact e.2)) 18001 0 (by omega) (by omega) (fun d g1 g2 => ⟨hdn _ (by omega) (by omega), hup _ (by omega) (by omega)⟩), if_pos (by omega), e1]
    omega
  · have cD : -15000 ≤ D := by
      rcases hz with hz | hz <;> omega
    have e1 : z = D := by
      rcases hz with hz | hz
      · have := hm D (Or.inr ⟨rfl, cD⟩)
        rw [kD, hz.1, kU] at this
        omega
      · exact hz.1
    have hwD := d4 cD
    have := hw D
    have hz0 : w (n - (n - D)) = w D := by rw [show n - (n - D) = D by omega]
    rw [nearR_at (F := n - D) (fun e => hwD (by rw [← hz0]; exact e.1)) 18001 0 (by omega) (by omega) (fun d g1 g2 => ⟨hdn _ (by omega) (by omega), hup _ (by omega) (by omega)⟩), if_neg (by omega), e1]
    omega
/-- what a queue of numbers near n holds -/
def nC (n : Int) (C : Int → Prop) (A : Nat → Prop) (ky : Nat → Int) : Prop := (∀ u, A u → ∃ z, C z ∧ ky u = kzN n z) ∧ ∀ z, C z → ∃ u, A u ∧ ky u = kzN n z
section
variable {K : Nat → Nat → Nat} {a : Nat → Nat}
theorem kYn_n {N : NM} {u : Nat} {n z : Int} (h : kYn N u (kzN n z)) (h1 : -15000 ≤ z) (h2 : z ≤ 15000) : ∃ w, N u = some (eO 14 [.int (iI z), .int w]) := by
  obtain ⟨z', w', o1, o2, o3, o4, o5, o6⟩ := h
  unfold kzN at o6
  have e1 : z' = z := by split at o6 <;> omega
  exact ⟨_, by rw [o1, e1]⟩
theorem c_near_153 {post : Int32 → NM → Prop} {S0 S : CS} {N0 N : NM} {n : Int} {C : Int → Prop} {xq ar cap j mc ms : Nat} {A : Nat → Prop} {ky : Nat → Int} (hx0 : N0 xq = none) (ha0 : N0 ar = none) (hQ : cQ K a S0 N0 S N) (hq : pQn N xq ar cap (j + 1) A ky) (hC : nC n C A ky) (hr : ∀ z, C z → -15000 ≤ z ∧ z ≤ 15000)
    (h : ∀ z S' N', C z → (∀ z', C z' → kzN n z ≤ kzN n z') → cQ K a S0 N0 S' N' → post (iI z) N') : wX0_nearest_153 K post xq mc ms N := by
  have hq' := hq
  obtain ⟨⟨md, q1⟩, ⟨g, Q, q2, -⟩, -, q4, q5, q6⟩ := hq'
  unfold wX0_nearest_153 wJ7_isEmpty wJ28_size
  refine ⟨_, _, _, _, q1, _, _, _, _, q1, _, _, _, _, q1, ?_⟩
  refine b_f ?_ (b_t rfl ⟨_, _, _, _, q1, ?_⟩)
  · rw [show (0 : Int32) = iI 0 from rfl, iI_eq (by omega) (by omega) (by omega) (by omega)]; omega
  · refine c_polln hq (fun N' u hu hm hq2 hf => ?_)
    obtain ⟨z, z1, z2⟩ := hC.1 u hu
    have o := hq.2.2.1 u hu
    have n1 : u ≠ xq := o.ob q1
    have n2 : u ≠ ar := o.ar q2
    rw [z2] at o
    obtain ⟨w, o1⟩ := kYn_n o (hr z z1).1 (hr z z1).2
    refine ⟨u, rfl, _, _, hf u _ o1 n1 n2, h z S N' z1 (fun z' hz' => ?_) (hQ.fq hf hx0 ha0 hq.oth.1 hq.oth.2)⟩
    obtain ⟨v, v1, v2⟩ := hC.2 z' hz'
    have := hm v v1
    omega
theorem c_nearAdd {P : Nat → Nat → NM → Prop} {S0 S : CS} {N0 N : NM} {n z : Int} {C : Int → Prop} {xq ar j mc ms : Nat} {A : Nat → Prop} {ky : Nat → Int} (hn : -3000 ≤ n ∧ n ≤ 3000) (hz : -15000 ≤ z ∧ z ≤ 15000) (hx0 : N0 xq = none) (ha0 : N0 ar = none) (hQ : cQ K a S0 N0 S N) (hq : pQn N xq ar 11 j A ky) (hj : j < 5) (hC : nC n C A ky) (hmc : 1 ≤ mc) (hms : 2 ≤ ms)
    (h : ∀ N' ar' A' ky', N0 ar' = none → cQ K a S0 N0 S N' → pQn N' xq ar' 11 (j + 1) A' ky' → nC n (fun w => C w ∨ w = z) A' ky' → P (mc - 1) (ms - 2) N') : 1 ≤ mc ∧ 2 ≤ ms ∧ (∀ nq, N nq = none → (∀ N1, N1 = va_up N nq (some (eO 14 [.int 0, .int 0])) → (wX15_init K (fun _ N2 => ∃ f1 f2 f3 f4, N2 xq = some (eO 21 [va_rf f1, .int f2, va_rf f3, .int f4]) ∧ (∃ mc1 ms1, mc1 ≤ (mc - 1) ∧ ms1 ≤ (ms - 2) ∧ wJ28_add_n K (fun _ N3 => P ((mc - 1) - mc1) ((ms - 2) - ms1) N3) mc1 ms1 N2 xq nq)) N1 nq (iI z) (iI n)))) := by
  refine ⟨hmc, hms, fun nq hnq N1 e1 => ?_⟩
  subst e1
  have n1 := (nw.refl N).new hnq (eO 14 [.int 0, .int 0])
  have nq0 := noneK hQ.1 hQ.2.1 hnq
  have hne := hq.size
  have xne : xq ≠ nq := fun e => hne.1 (by rw [e]; exact hnq)
  have ane : ar ≠ nq := fun e => hne.2.1 (by rw [e]; exact hnq)
  have hA : ¬ A nq := fun hA => by
    obtain ⟨z, w, o1, -⟩ := hq.2.2.1 nq hA
    rw [hnq] at o1; cases o1
  have go : ∀ d : Int, d = (if n ≤ z then z - n else n - z) → ∀ N2, N2 = va_up N nq (some (eO 14 [.int (iI z), .int (iI d)])) → ∃ f1 f2 f3 f4, N2 xq = some (eO 21 [va_rf f1, .int f2, va_rf f3, .int f4]) ∧ (∃ mc1 ms1, mc1 ≤ (mc - 1) ∧ ms1 ≤ (ms - 2) ∧ wJ28_add_n K (fun _ N3 => P ((mc - 1) - mc1) ((ms - 2) - ms1) N3) mc1 ms1 N2 xq nq) := by
    intro d hd N2 e2
    subst e2
    have n2 := (nw.refl N).new hnq (eO 14 [.int (iI z), .int (iI d)])
    have hQ2 := hQ.nw n2
    have hq2 := hq.st (fun z e z1 _ _ => n2 z e z1)
    have hd2 : 0 ≤ d ∧ d ≤ 40000 := by rw [hd]; split <;> omega
    have hky : kYn (va_up N nq (some (eO 14 [.int (iI z), .int (iI d)]))) nq (kzN n z) := ⟨z, d, up_eq _ _ _, hz.1, hz.2, hd2.1, hd2.2, by unfold kzN; rw [← hd]⟩
    obtain ⟨md, q1⟩ := hq2.1
    refine ⟨_, _, _, _, q1, 0, 0, Nat.zero_le _, Nat.zero_le _, ?_⟩
    refine c_addn hq2 hky hA (fun c => by omega) (fun N' ar' cap' k1 k2 k3 k4 => ?_)
    have hc' : cap' = 11 := by rcases k4 with ⟨k4, -⟩ | ⟨-, k4⟩ <;> omega
    have har' : N0 ar' = none := by
      rcases k3 with k3 | k3
      · rw [k3]; exact ha0
      · exact noneK hQ2.1 hQ2.2.1 k3
    rw [hc'] at k1
    refine h N' ar' _ _ har' (hQ2.fq k2 hx0 ha0 hq2.oth.1 hq2.oth.2) k1 ⟨fun u hu => ?_, fun w hw => ?_⟩
    · rcases hu with hu | hu
      · obtain ⟨w, w1, w2⟩ := hC.1 u hu
        exact ⟨w, Or.inl w1, by rw [up_ne _ _ _ (fun e => hA (by rw [← e]; exact hu))]; exact w2⟩
      · exact ⟨z, Or.inr rfl, by rw [hu, up_eq]⟩
    · rcases hw with hw | hw
      · obtain ⟨u, u1, u2⟩ := hC.2 w hw
        exact ⟨u, Or.inl u1, by rw [up_ne _ _ _ (fun e => hA (by rw [← e]; exact u1))]; exact u2⟩
      · exact ⟨nq, Or.inr rfl, by rw [hw, up_eq]⟩
  unfold wX15_init wJ14_abs
  refine ⟨_, _, up_eq _ _ _, fun N4 e4 => ?_⟩
  rw [up_up] at e4
  subst e4
  rw [iI_sub, iI_neg, show (0 : Int32) = iI 0 from rfl, iI_le (by omega) (by omega) (by omega) (by omega)]
  refine ⟨fun c N8 e8 => ?_, fun c N8 e8 => ?_⟩
  · rw [up_up] at e8
    exact go _ (by rw [if_pos (by omega)]) N8 e8
  · rw [up_up] at e8
    exact go _ (by rw [if_neg (by omega)]; omega) N8 e8
theorem c_near_129 {post : Int32 → NM → Prop} {S0 S : CS} {N0 N : NM} {n D : Int} {C : Int → Prop} {xq ar j mc ms : Nat} {A : Nat → Prop} {ky : Nat → Int} (hn : -3000 ≤ n ∧ n ≤ 3000) (hD : -15001 ≤ D ∧ D ≤ n) (hx0 : N0 xq = none) (ha0 : N0 ar = none) (hQ : cQ K a S0 N0 S N) (hq : pQn N xq ar 11 j A ky) (hj : j < 4) (hj2 : j = 0 → -15000 ≤ D) (hC : nC n C A ky) (hr : ∀ z, C z → -15000 ≤ z ∧ z ≤ 15000) (hmc : 1 ≤ mc) (hms : 2 ≤ ms)
    (h : ∀ z S' N', (C z ∨ (z = D ∧ -15000 ≤ D)) → (∀ z', (C z' ∨ (z' = D ∧ -15000 ≤ D)) → kzN n z ≤ kzN n z') → cQ K a S0 N0 S' N' → post (iI z) N') : wX0_nearest_129 K post (iI n) xq (iI D) mc ms N := by
  unfold wX0_nearest_129
  rw [show (-15000 : Int32) = iI (-15000) from rfl, iI_lt (by omega) (by omega) (by omega) (by omega)]
  refine ⟨fun c => ?_, fun c => ?_⟩
  · obtain ⟨i, rfl⟩ : ∃ i, j = i + 1 := ⟨j - 1, by omega⟩
    exact c_near_153 hx0 ha0 hQ hq hC hr (fun z S' N' z1 z2 z3 => h z S' N' (Or.inl z1) (fun z' hz' => z2 z' (hz'.resolve_right (fun c2 => by omega))) z3)
  · refine c_nearAdd (P := fun mc ms N' => wX0_nearest_153 K post xq mc ms N') hn (by omega) hx0 ha0 hQ hq (by omega) hC hmc hms (fun N' ar' A' ky' k1 k2 k3 k4 => ?_)
    refine c_near_153 hx0 k1 k2 k3 k4 (fun z hz => by rcases hz with hz | hz; exact hr z hz; omega) (fun z S' N' z1 z2 z3 => h z S' N' ?_ (fun z' hz' => z2 z' ?_) z3)
    · rcases z1 with z1 | z1
      · exact Or.inl z1
      · exact Or.inr ⟨z1, by omega⟩
    · rcases hz' with z1 | z1
      · exact Or.inl z1
      · exact Or.inr z1.1
theorem c_near_105 {post : Int32 → NM → Prop} {S0 S : CS} {N0 N : NM} {n U D : Int} {xq ar mc ms : Nat} (hn : -3000 ≤ n ∧ n ≤ 3000) (hD : -15001 ≤ D ∧ D ≤ n) (hU : n ≤ U ∧ U ≤ 15001) (hUD : U ≤ 15000 ∨ -15000 ≤ D) (hx0 : N0 xq = none) (ha0 : N0 ar = none) (hQ : cQ K a S0 N0 S N) (hq : pQn N xq ar 11 0 (fun _ => False) (fun _ => 0)) (hmc : 2 ≤ mc) (hms : 4 ≤ ms)
    (h : ∀ z S' N', ((z = U ∧ U ≤ 15000) ∨ (z = D ∧ -15000 ≤ D)) → (∀ z', ((z' = U ∧ U ≤ 15000) ∨ (z' = D ∧ -15000 ≤ D)) → kzN n z ≤ kzN n z') → cQ K a S0 N0 S' N' → post (iI z) N') : wX0_nearest_105 K post (iI n) xq (iI U) (iI D) mc ms N := by
  unfold wX0_nearest_105
  rw [show (15000 : Int32) = iI 15000 from rfl, iI_lt (by omega) (by omega) (by omega) (by omega)]
  have hC0 : nC n (fun _ => False) (fun _ => False) (fun _ => 0) := ⟨fun u hu => False.elim hu, fun z hz => False.elim hz⟩
  refine ⟨fun c => ?_, fun c => ?_⟩
  · refine c_near_129 hn hD hx0 ha0 hQ hq (by omega) (fun _ => by omega) hC0 (fun z hz => False.elim hz) (by omega) (by omega) (fun z S' N' z1 z2 z3 => h z S' N' ?_ (fun z' hz' => z2 z' ?_) z3)
    · exact Or.inr (z1.resolve_left (fun e => e))
    · exact Or.inr (hz'.resolve_left (fun e => by omega))
  · refine c_nearAdd (P := fun mc ms N' => wX0_nearest_129 K post (iI n) xq (iI D) mc ms N') hn (by omega) hx0 ha0 hQ hq (by omega) hC0 (by omega) (by omega) (fun N' ar' A' ky' k1 k2 k3 k4 => ?_)
    refine c_near_129 hn hD hx0 k1 k2 k3 (by omega) (fun e => by omega) k4 (fun z hz => by rcases hz with hz | hz; exact False.elim hz; omega) (by omega) (by omega) (fun z S' N' z1 z2 z3 => h z S' N' ?_ (fun z' hz' => z2 z' ?_) z3)
    · rcases z1 with (z1 | z1) | z1
      · exact False.elim z1
      · exact Or.inl ⟨z1, by omega⟩
      · exact Or.inr z1
    · rcases hz' with z1 | z1
      · exact Or.inl (Or.inr z1.1)
      · exact Or.inr z1
theorem c_nearRow {S : CS} {N : NM} {ts : List tm} {z : Int} {P : Int64 → Prop} (hL : cL K a S N) (hr : rowsL S ts) (hz : -15000 ≤ z ∧ z ≤ 15000) (h : P (lI (Wy ts z))) : ∃ n f, N (a 4) = some (eR 6 n f) ∧ (vp_in 0 n ∧ (∃ a1, f (0 : Int32).toNatClampNeg = some a1 ∧ (∃ n1 f1, N a1 = some (eL 1 n1 f1) ∧ (vp_in (15000 + iI z) n1 ∧ P (f1 (15000 + iI z).toNatClampNeg))))) := by
  obtain ⟨f, g1, g2⟩ := hL.frm
  refine ⟨_, _, g1, by rw [show (0 : Int32) = iI 0 from rfl]; exact iI_in (by omega) (by omega) (by omega), _, g2 0 (by omega), _, _, hL.row (k := 0) (by omega), ?_⟩
  rw [show (15000 : Int32) = iI 15000 from rfl, iI_add, iI_nat (by omega) (by omega)]
  refine ⟨iI_in (by omega) (by omega) (by omega), ?_⟩
  have := hr 0 (Nat.zero_le _) (15000 + z) (by omega) (by omega)
  rw [this]
  unfold wR
  rw [List.drop_zero, show 15000 + z - 15000 = z by omega]
  exact h
theorem c_near_73 {post : Int32 → NM → Prop} {S : CS} {N : NM} {ts : List tm} {n U : Int} {xq mc ms : Nat} (hv : vF ts) (hL : cL K a S N) (hr : rowsL S ts) (hn : -3000 ≤ n ∧ n ≤ 3000)
    (h : ∀ D, dnNr (Wy ts) n D → wX0_nearest_105 K post (iI n) xq (iI U) (iI D) mc ms N) : ∀ (m : Nat) (D : Int), D = m - 15001 → D ≤ n → (∀ z, z ≤ n → D < z → Wy ts z = 0) → wX0_nearest_73 K post (m + 1) (a 0) (iI n) xq (iI U) (iI D) mc ms N := by
  intro m
  induction m with
  | zero =>
    intro D hD hDn h0
    unfold wX0_nearest_73
    exact b_t (by simp (disch := omega) only [iLit, lLit, iI_add, iI_sub, iI_mul, iI_neg, lI_add, lI_sub, lI_mul, lI_neg, nI_i, lI_i, iI_l, iI_nat, iI_lt, iI_le, iI_eq, lI_lt, lI_le, lI_eq] <;> omega) (h D ⟨hDn, by omega, h0, fun c => by omega⟩)
  | succ m ih =>
    intro D hD hDn h0
    unfold wX0_nearest_73
    refine b_f (by simp (disch := omega) only [iLit, lLit, iI_add, iI_sub, iI_mul, iI_neg, lI_add, lI_sub, lI_mul, lI_neg, nI_i, lI_i, iI_l, iI_nat, iI_lt, iI_le, iI_eq, lI_lt, lI_le, lI_eq] <;> omega) ⟨_, _, _, _, _, _, _, _, _, _, _, _, _, _, _, _, _, _, _, hL.obj, _, rfl, ?_⟩
    refine c_nearRow (P := fun v => (v = 0 → wX0_nearest_73 K post (m + 1) (a 0) (iI n) xq (iI U) (iI D + -1) mc ms N) ∧ (¬ v = 0 → wX0_nearest_105 K post (iI n) xq (iI U) (iI D) mc ms N)) hL hr (by omega) ?_
    have w1 := Wy_nn ts D
    have w2 := Wy_lt hv D
    rw [show (0 : Int64) = lI 0 from rfl, lI_eq (by omega) (by omega) (by omega) (by omega)]
    refine ⟨fun c => ?_, fun c => h D ⟨hDn, by omega, h0, fun _ => c⟩⟩
    rw [iI_pred]
    exact ih (D - 1) (by omega) (by omega) (fun z z1 z2 => by
      by_cases e : z = D
      · rw [e]; exact c
      · exact h0 z z1 (by omega))
theorem c_near_38 {post : Int32 → NM → Prop} {S : CS} {N : NM} {ts : List tm} {n : Int} {xq mc ms : Nat} (hv : vF ts) (hL : cL K a S N) (hr : rowsL S ts) (hn : -3000 ≤ n ∧ n ≤ 3000)
    (h : ∀ U D, upNr (Wy ts) n U → dnNr (Wy ts) n D → wX0_nearest_105 K post (iI n) xq (iI U) (iI D) mc ms N) : ∀ (m : Nat) (U : Int), U + m = 15001 → n ≤ U → (∀ z, n ≤ z → z < U → Wy ts z = 0) → wX0_nearest_38 K post (m + 1) (a 0) (iI n) xq (iI U) mc ms N := by
  have fin : ∀ U, upNr (Wy ts) n U → wX0_nearest_70 K post (a 0) (iI n) xq (iI U) mc ms N := fun U hU => by
    unfold wX0_nearest_70
    exact ⟨(n + 15001).toNat + 1, c_near_73 hv hL hr hn (fun D hD => h U D hU hD) _ n (by omega) (by omega) (fun z z1 z2 => by omega)⟩
  intro m
  induction m with
  | zero =>
    intro U hU hnU h0
    unfold wX0_nearest_38
    exact b_t (by simp (disch := omega) only [iLit, lLit, iI_add, iI_sub, iI_mul, iI_neg, lI_add, lI_sub, lI_mul, lI_neg, nI_i, lI_i, iI_l, iI_nat, iI_lt, iI_le, iI_eq, lI_lt, lI_le, lI_eq] <;> omega) (fin U ⟨hnU, by omega, h0, fun c => by omega⟩)
  | succ m ih =>
    intro U hU hnU h0
    unfold wX0_nearest_38
    refine b_f (by simp (disch := omega) only [iLit, lLit, iI_add, iI_sub, iI_mul, iI_neg, lI_add, lI_sub, lI_mul, lI_neg, nI_i, lI_i, iI_l, iI_nat, iI_lt, iI_le, iI_eq, lI_lt, lI_le, lI_eq] <;> omega) ⟨_, _, _, _, _, _, _, _, _, _, _, _, _, _, _, _, _, _, _, hL.obj, _, rfl, ?_⟩
    refine c_nearRow (P := fun v => (v = 0 → wX0_nearest_38 K post (m + 1) (a 0) (iI n) xq (iI U + 1) mc ms N) ∧ (¬ v = 0 → wX0_nearest_70 K post (a 0) (iI n) xq (iI U) mc ms N)) hL hr (by omega) ?_
    have w1 := Wy_nn ts U
    have w2 := Wy_lt hv U
    rw [show (0 : Int64) = lI 0 from rfl, lI_eq (by omega) (by omega) (by omega) (by omega)]
    refine ⟨fun c => ?_, fun c => fin U ⟨hnU, by omega, h0, fun _ => c⟩⟩
    rw [show (1 : Int32) = iI 1 from rfl, iI_add]
    exact ih (U + 1) (by omega) (by omega) (fun z z1 z2 => by
      by_cases e : z = U
      · rw [e]; exact c
      · exact h0 z z1 (by omega))
theorem c_nearest {post : Int32 → NM → Prop} {MC MS : Nat} {S : CS} {N : NM} {F : Nat → List tm} {z n : Int} (hK : kOk K) (hL : cL K a S N) (hF : cSlots K S N F) (hc : cLaid K S N) (hu : cUnl K S N) (hz : i32 z) (hn : i32 n) (hMC : 300 ≤ MC) (hMS : 2000 ≤ MS)
    (h0 : ¬ (0 ≤ z ∧ z ≤ 3 ∧ F z.toNat ≠ [] ∧ -3000 ≤ n ∧ n ≤ 3000) → post (iI (-100000)) N) (h1 : ∀ (s : Nat) S' N', s < 4 → z = s → F s ≠ [] → -3000 ≤ n → n ≤ 3000 → cQ K a S N S' N' → post (iI (nearS (Wy (F s)) n)) N') : wX0_nearest K post MC MS N (a 0) (iI z) (iI n) := by
  unfold wX0_nearest
  refine ⟨_, _, _, _, _, _, _, _, _, _, _, _, _, _, _, _, _, _, _, hL.obj, 3, 210, by omega, by omega, ?_⟩
  refine c_at hL hF hz (by omega) (by omega) (fun hn => ⟨fun _ => h0 (fun w => hn ⟨w.1, w.2.1, w.2.2.1⟩), fun a28 e => by cases e⟩) (fun s q hs ez hne hsl hf hv => ⟨fun e => (by cases e), fun a28 _ => ?_⟩)
  refine c_isNumber hn (fun n1 n2 => b_f (by decide) ?_) (fun hc => b_t rfl (h0 (fun z => hc (by omega))))
  refine ⟨_, _, _, _, _, _, _, _, _, _, _, _, _, _, _, _, _, _, _, hL.obj, ?_⟩
  refine c_laysWays hK hL hf hv hc (fun S' N1 g1 g2 g3 g4 g5 => ?_)
  have hW : cW K a S N S' N1 := ⟨g1, g2, g3, Or.inr ⟨q, F s, g4, hf.kp hL g2, hv, g5⟩⟩
  have hQ := hW.Q hL hu
  refine ⟨by omega, by omega, fun nq hnq N39 e39 => ?_⟩
  subst e39
  have n1' := (nw.refl N1).new hnq (eO 21 [va_rf none, .int 0, va_rf none, .int 0])
  have hQ1 := hQ.nw n1'
  have hnq0 := noneK hQ.1 hQ.2.1 hnq
  refine ⟨1, 11, by omega, by omega, ?_⟩
  refine c_newQ (up_eq _ _ _) (by omega) (by omega) (fun N' ar har hf1 hq _ => ⟨(15001 - n).toNat + 1, ?_⟩)
  have oth1 : oth (va_up N1 nq (some (eO 21 [va_rf none, .int 0, va_rf none, .int 0]))) nq := ⟨_, up_eq _ _ _, rfl, rfl⟩
  have hf2 : fq nq nq (va_up N1 nq (some (eO 21 [va_rf none, .int 0, va_rf none, .int 0]))) N' := fun w e he w1 _ => hf1 w e he w1 (fun c => by rw [c, har] at he; cases he)
  have hQ2 := hQ1.fq hf2 hnq0 hnq0 oth1 oth1
  have har0 : N ar = none := noneK hQ1.1 hQ1.2.1 har
  refine c_near_38 hv hQ2.1 g5 ⟨n1, n2⟩ (fun U D hU hD => ?_) _ n (by omega) (by omega) (fun z z1 z2 => by omega)
  have hsome : U ≤ 15000 ∨ -15000 ≤ D := by
    apply Classical.byContradiction
    intro c
    obtain ⟨w, hw⟩ := Wy_some (F s) hv
    by_cases c1 : n ≤ w
    · by_cases c2 : w ≤ 15000
      · exact hw (hU.2.2.1 w c1 (by omega))
      · exact hw (Wy_sup5 hv (by omega))
    · by_cases c2 : -15000 ≤ w
      · exact hw (hD.2.2.1 w (by omega) (by omega))
      · exact hw (Wy_sup5 hv (by omega))
  refine c_near_105 ⟨n1, n2⟩ ⟨hD.2.1, hD.1⟩ ⟨hU.1, hU.2.1⟩ hsome hnq0 har0 hQ2 hq (by omega) (by omega) (fun z' S'' N'' z1 z2 z3 => ?_)
  rw [← near_c ⟨n1, n2⟩ (Wy_nn (F s)) (fun w hw => Wy_sup5 hv (by omega)) hU hD z1 z2]
  exact h1 s S'' N'' hs ez hne n1 n2 z3
end
