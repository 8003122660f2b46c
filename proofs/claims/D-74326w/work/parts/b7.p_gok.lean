set_option maxRecDepth 100000
set_option maxHeartbeats 4000000
/-! the start: all that the run leans on -/
theorem lw_sub {w : Cond} (h : w ∈ lw_all) : w ∈ lw_tbl := (List.mem_filter.mp h).1
theorem eq_of {args : Array Value} {s : State} {t u : Term} {a c : Nat} (h : (Cond.eq t u).before args s = true) (ht : t.eval args s none [] s = some (.ref a)) (hu : u.eval args s none [] s = some (.ref c)) : a = c := by
  simp only [Cond.before, Cond.holds, Cond.value, ht, hu] at h
  simpa using h
theorem ex_of {args : Array Value} {s : State} {t : Term} {C : String} (h : (Cond.exactly t C).before args s = true) : ∃ a : Nat, t.eval args s none [] s = some (.ref a) := by
  obtain ⟨a, c, cell, k, q1, -⟩ := Cond.exactly_spec h
  exact ⟨a, q1⟩
theorem ar_c {args : Array Value} {s : State} {ty : FieldType} (h : (Cond.arrayClass ty).before args s = true) (hr : ∀ c, s.vm.findClass ("[" ++ ty.toString) = some c → va_RA s c ty) : ∃ c, ArrOfT s c ty ∧ va_RA s c ty := by
  obtain ⟨c, k, comp, h1, h2, h3⟩ := Cond.arrayClass_spec h
  exact ⟨c, fun n z => ⟨fun k h => (by cases h), k, h2, comp, h3⟩, hr c h1⟩
theorem ar_o {args : Array Value} {s : State} {C : String} (h : (Cond.arrayOver (.object C)).before args s = true) : ∃ c, ArrOfT s c (.object C) ∧ va_RA s c (.object C) := by
  obtain ⟨comp, c, k, h1, h2, h3, h4, h5⟩ := Cond.arrayOver_spec h
  exact ⟨c, fun n z => ⟨fun k h => (by cases h), k, h3, comp, h4⟩, k, comp, h3, h4, h1, h5⟩
theorem ar_a {args : Array Value} {s : State} {t : FieldType} (h : (Cond.arrayOver (.array t)).before args s = true) : ∃ c, ArrOfT s c (.array t) ∧ va_RA s c (.array t) := by
  obtain ⟨comp, c, k, h1, h2, h3, h4⟩ := Cond.arrayOver_specA h
  exact ⟨c, fun n z => ⟨fun k h => (by cases h), k, h2, comp, h3⟩, h4⟩
theorem go_cls {s : State} {b : Nat} (hts : ∀ w ∈ lw_tbl, w.before #[Value.ref b] s = true) : ∃ (dC : Nat → ClassId) (dI : Nat → Nat → Nat), ∀ (k : Nat) (q : vw_C), vwCl[k]? = some q → u_Kn s q.1 q.2.1 q.2.2 (dC k) (dI k) := by
  have htA : ∀ w ∈ lw_all, w.before #[Value.ref b] s = true := fun w h => hts w (lw_sub h)
  obtain ⟨c0, i0, h0⟩ := u_known (C := RX1) (T := TX1) (N := 50) (n := 50) htA in_X1 (htA _ q1951)
  obtain ⟨c1, i1, h1⟩ := u_known (C := RX0) (T := TX0) (N := 19) (n := 19) htA in_X0 (htA _ q159)
  obtain ⟨c2, i2, h2⟩ := u_known (C := RX2) (T := TX2) (N := 4) (n := 4) htA in_X2 (htA _ q393)
  obtain ⟨c3, i3, h3⟩ := u_known (C := RX3) (T := TX3) (N := 8) (n := 8) htA in_X3 (htA _ q663)
  obtain ⟨c4, i4, h4⟩ := u_known (C := RX8) (T := TX8) (N := 7) (n := 7) htA in_X8 (htA _ q1393)
  obtain ⟨c5, i5, h5⟩ := u_known (C := RX5) (T := TX5) (N := 7) (n := 7) htA in_X5 (htA _ q843)
  obtain ⟨c6, i6, h6⟩ := u_known (C := RX4) (T := TX4) (N := 4) (n := 4) htA in_X4 (htA _ q704)
  obtain ⟨c7, i7, h7⟩ := u_known (C := RX6) (T := TX6) (N := 1) (n := 1) htA in_X6 (htA _ q879)
  obtain ⟨c8, i8, h8⟩ := u_known (C := RX11) (T := TX11) (N := 1) (n := 1) htA in_X11 (htA _ q1470)
  obtain ⟨c9, i9, h9⟩ := u_known (C := RX12) (T := TX12) (N := 1) (n := 1) htA in_X12 (htA _ q1486)
  obtain ⟨c10, i10, h10⟩ := u_known (C := RX14) (T := TX14) (N := 3) (n := 3) htA in_X14 (htA _ q1515)
  obtain ⟨c11, i11, h11⟩ := u_known (C := RX13) (T := TX13) (N := 2) (n := 2) htA in_X13 (htA _ q1499)
  obtain ⟨c12, i12, h12⟩ := u_known (C := RX9) (T := TX9) (N := 2) (n := 2) htA in_X9 (htA _ q1422)
  obtain ⟨c13, i13, h13⟩ := u_known (C := RX7) (T := (fun _ => ("", "", "", false))) (N := 0) (n := 0) htA in_X7 (htA _ q935)
  obtain ⟨c14, i14, h14⟩ := u_known (C := RX15) (T := TX15) (N := 2) (n := 2) htA in_X15 (htA _ q1686)
  obtain ⟨c15, i15, h15⟩ := u_known (C := RX16) (T := TX16) (N := 2) (n := 2) htA in_X16 (htA _ q1877)
  obtain ⟨c16, i16, h16⟩ := u_known (C := RJ6) (T := TJ6) (N := 4) (n := 4) htA in_J6 (htA _ q367)
  obtain ⟨c17, i17, h17⟩ := u_known (C := RJ11) (T := TJ11) (N := 4) (n := 4) htA in_J11 (htA _ q470)
  obtain ⟨c18, i18, h18⟩ := u_known (C := RJ9) (T := TJ9) (N := 3) (n := 3) htA in_J9 (htA _ q425)
  obtain ⟨c19, i19, h19⟩ := u_known (C := RJ21) (T := TJ21) (N := 9) (n := 9) htA in_J21 (htA _ q933)
  obtain ⟨c20, i20, h20⟩ := u_known (C := RJ26) (T := TJ26) (N := 6) (n := 6) htA in_J26 (htA _ q1312)
  obtain ⟨c21, i21, h21⟩ := u_known (C := RJ28) (T := TJ28) (N := 4) (n := 4) htA in_J28 (htA _ q1660)
  obtain ⟨c22, i22, h22⟩ := u_known (C := RJ23) (T := TJ23) (N := 1) (n := 1) htA in_J23 (htA _ q988)
  refine ⟨fun k => match k with | 0 => c0 | 1 => c1 | 2 => c2 | 3 => c3 | 4 => c4 | 5 => c5 | 6 => c6 | 7 => c7 | 8 => c8 | 9 => c9 | 10 => c10 | 11 => c11 | 12 => c12 | 13 => c13 | 14 => c14 | 15 => c15 | 16 => c16 | 17 => c17 | 18 => c18 | 19 => c19 | 20 => c20 | 21 => c21 | 22 => c22 | _ => c0, fun k => match k with | 0 => i0 | 1 => i1 | 2 => i2 | 3 => i3 | 4 => i4 | 5 => i5 | 6 => i6 | 7 => i7 | 8 => i8 | 9 => i9 | 10 => i10 | 11 => i11 | 12 => i12 | 13 => i13 | 14 => i14 | 15 => i15 | 16 => i16 | 17 => i17 | 18 => i18 | 19 => i19 | 20 => i20 | 21 => i21 | 22 => i22 | _ => i0, fun k q hq => ?_⟩
  match k, hq with
  | 0, hq => cases hq; exact h0
  | 1, hq => cases hq; exact h1
  | 2, hq => cases hq; exact h2
  | 3, hq => cases hq; exact h3
  | 4, hq => cases hq; exact h4
  | 5, hq => cases hq; exact h5
  | 6, hq => cases hq; exact h6
  | 7, hq => cases hq; exact h7
  | 8, hq => cases hq; exact h8
  | 9, hq => cases hq; exact h9
  | 10, hq => cases hq; exact h10
  | 11, hq => cases hq; exact h11
  | 12, hq => cases hq; exact h12
  | 13, hq => cases hq; exact h13
  | 14, hq => cases hq; exact h14
  | 15, hq => cases hq; exact h15
  | 16, hq => cases hq; exact h16
  | 17, hq => cases hq; exact h17
  | 18, hq => cases hq; exact h18
  | 19, hq => cases hq; exact h19
  | 20, hq => cases hq; exact h20
  | 21, hq => cases hq; exact h21
  | 22, hq => cases hq; exact h22
  | k + 23, hq => cases hq
theorem go_arr {s : State} {b : Nat} (hts : ∀ w ∈ lw_tbl, w.before #[Value.ref b] s = true) : ∃ cA : Nat → ClassId, ∀ (k : Nat) (q : ClassId × FieldType), ([(cA 0, .int), (cA 1, .long), (cA 2, .boolean), (cA 3, .byte), (cA 4, .object "ToldPowers$Form"), (cA 5, .object "ToldPowers$Term"), (cA 6, .array .long), (cA 7, .array .boolean), (cA 8, .object "java/lang/Object"), (cA 9, .object "ToldPowers$Kind"), (cA 10, .object "java/lang/String"), (cA 11, .object "ToldPowers$Sum")] : List (ClassId × FieldType))[k]? = some q → ArrOfT s q.1 q.2 ∧ va_RA s q.1 q.2 := by
  obtain ⟨c0, h0⟩ := ar_c (hts _ (lw_sub q375)) (fun _ h => h)
  obtain ⟨c1, h1⟩ := ar_c (hts _ (lw_sub q276)) (fun _ h => h)
  obtain ⟨c2, h2⟩ := ar_c (hts _ (lw_sub q277)) (fun _ h => h)
  obtain ⟨c3, h3⟩ := ar_c (hts _ (lw_sub q275)) (fun _ h => h)
  obtain ⟨c4, h4⟩ := ar_o (hts _ q203)
  obtain ⟨c5, h5⟩ := ar_o (hts _ q865)
  obtain ⟨c6, h6⟩ := ar_a (hts _ q205)
  obtain ⟨c7, h7⟩ := ar_a (hts _ q207)
  obtain ⟨c8, h8⟩ := ar_o (hts _ q830)
  obtain ⟨c9, h9⟩ := ar_o (hts _ q184)
  obtain ⟨c10, h10⟩ := ar_o (hts _ q196)
  obtain ⟨c11, h11⟩ := ar_o (hts _ q1420)
  refine ⟨fun k => match k with | 0 => c0 | 1 => c1 | 2 => c2 | 3 => c3 | 4 => c4 | 5 => c5 | 6 => c6 | 7 => c7 | 8 => c8 | 9 => c9 | 10 => c10 | 11 => c11 | _ => c0, fun k q hq => ?_⟩
  match k, hq with
  | 0, hq => cases hq; exact h0
  | 1, hq => cases hq; exact h1
  | 2, hq => cases hq; exact h2
  | 3, hq => cases hq; exact h3
  | 4, hq => cases hq; exact h4
  | 5, hq => cases hq; exact h5
  | 6, hq => cases hq; exact h6
  | 7, hq => cases hq; exact h7
  | 8, hq => cases hq; exact h8
  | 9, hq => cases hq; exact h9
  | 10, hq => cases hq; exact h10
  | 11, hq => cases hq; exact h11
  | k + 12, hq => cases hq
def sTm : Nat → Term := fun i => match i with | 0 => (Jvm.Term.string "ToldPowers" (186 : Nat)) | 1 => (Jvm.Term.string "ToldPowers" (188 : Nat)) | 2 => (Jvm.Term.string "ToldPowers" (190 : Nat)) | 3 => (Jvm.Term.string "ToldPowers" (192 : Nat)) | 4 => (Jvm.Term.string "ToldPowers" (194 : Nat)) | 5 => (Jvm.Term.string "ToldPowers" (217 : Nat)) | 6 => (Jvm.Term.string "ToldPowers" (367 : Nat)) | 7 => (Jvm.Term.string "ToldPowers" (369 : Nat)) | 8 => (Jvm.Term.string "ToldPowers" (375 : Nat)) | 9 => (Jvm.Term.string "ToldPowers$Reader" (144 : Nat)) | 10 => (Jvm.Term.string "ToldPowers$Reader" (163 : Nat)) | _ => (Jvm.Term.string "ToldPowers$Reader" (196 : Nat))
theorem go_ex {s : State} {b : Nat} (hn : narrow_1.before #[Value.ref b] s = true) : ∀ i : Nat, i < sN → (Cond.exactly (sTm i) "java/lang/String").before #[Value.ref b] s = true := by
  intro i hi
  match i, hi with
  | 0, _ => exact (and_l (and_l (and_r (and_r (and_r (and_r (and_l (and_r (and_l (and_r hn))))))))))
  | 1, _ => exact (and_l (and_r (and_l (and_l (and_l (and_l (and_l (and_r (and_r (and_l (and_r hn)))))))))))
  | 2, _ => exact (and_l (and_l (and_l (and_r (and_l (and_l (and_r (and_r (and_l (and_r hn))))))))))
  | 3, _ => exact (and_r (and_l (and_r (and_r (and_r (and_l (and_l (and_r (and_r (and_l (and_r hn)))))))))))
  | 4, _ => exact (and_l (and_r (and_r (and_r (and_l (and_r (and_l (and_r (and_r (and_l (and_r hn)))))))))))
  | 5, _ => exact (and_l (and_r (and_r (and_r (and_r (and_r (and_l (and_r (and_r (and_l (and_r hn)))))))))))
  | 6, _ => exact (and_r (and_r (and_r (and_r (and_r (and_r (and_r (and_r (and_r (and_l (and_r hn)))))))))))
  | 7, _ => exact (and_r (and_r (and_l (and_r (and_r (and_l (and_l (and_l (and_l (and_r (and_r hn)))))))))))
  | 8, _ => exact (and_l (and_r (and_r (and_l (and_r (and_r (and_l (and_l (and_l (and_r (and_r hn)))))))))))
  | 9, _ => exact (and_l (and_r (and_l (and_r (and_l (and_l (and_r (and_r (and_r (and_l (and_r hn)))))))))))
  | 10, _ => exact (and_l (and_l (and_r (and_r (and_r (and_l (and_r (and_r (and_r (and_l (and_r hn)))))))))))
  | 11, _ => exact (and_l (and_r (and_r (and_l (and_r (and_r (and_r (and_r (and_l (and_r hn))))))))))
  | i + 12, hi => exact absurd (show i + 12 < 12 from hi) (by omega)
theorem go_co {s : State} {b : Nat} (hn : narrow_1.before #[Value.ref b] s = true) : ∀ i : Nat, i < sN → (Cond.eq (.field (sTm i) "java/lang/String" "coder" "B") (.int 0)).before #[Value.ref b] s = true := by
  intro i hi
  match i, hi with
  | 0, _ => exact (and_l (and_r (and_l (and_r (and_r (and_r (and_r (and_l (and_r (and_l (and_r hn)))))))))))
  | 1, _ => exact (and_r (and_r (and_l (and_l (and_l (and_l (and_l (and_r (and_r (and_l (and_r hn)))))))))))
  | 2, _ => exact (and_l (and_r (and_l (and_l (and_r (and_l (and_l (and_r (and_r (and_l (and_r hn)))))))))))
  | 3, _ => exact (and_l (and_r (and_r (and_r (and_r (and_l (and_l (and_r (and_r (and_l (and_r hn)))))))))))
  | 4, _ => exact (and_r (and_r (and_r (and_r (and_l (and_r (and_l (and_r (and_r (and_l (and_r hn)))))))))))
  | 5, _ => exact (and_r (and_r (and_r (and_r (and_r (and_r (and_l (and_r (and_r (and_l (and_r hn)))))))))))
  | 6, _ => exact (and_l (and_l (and_l (and_l (and_l (and_l (and_l (and_l (and_r (and_r hn))))))))))
  | 7, _ => exact (and_l (and_r (and_r (and_r (and_l (and_l (and_l (and_l (and_r (and_r hn))))))))))
  | 8, _ => exact (and_r (and_r (and_r (and_l (and_r (and_r (and_l (and_l (and_l (and_r (and_r hn)))))))))))
  | 9, _ => exact (and_r (and_r (and_l (and_r (and_l (and_l (and_r (and_r (and_r (and_l (and_r hn)))))))))))
  | 10, _ => exact (and_r (and_l (and_r (and_r (and_r (and_l (and_r (and_r (and_r (and_l (and_r hn)))))))))))
  | 11, _ => exact (and_l (and_r (and_r (and_r (and_l (and_r (and_r (and_r (and_r (and_l (and_r hn)))))))))))
  | i + 12, hi => exact absurd (show i + 12 < 12 from hi) (by omega)
theorem go_ar {s : State} {b : Nat} (hn : narrow_1.before #[Value.ref b] s = true) : ∀ i : Nat, i < sN → (Cond.arrayOf (.field (sTm i) "java/lang/String" "value" "[B") .byte).before #[Value.ref b] s = true := by
  intro i hi
  match i, hi with
  | 0, _ => exact (and_r (and_r (and_l (and_r (and_r (and_r (and_r (and_l (and_r (and_l (and_r hn)))))))))))
  | 1, _ => exact (and_l (and_r (and_l (and_l (and_l (and_l (and_r (and_r (and_l (and_r hn))))))))))
  | 2, _ => exact (and_r (and_r (and_l (and_l (and_r (and_l (and_l (and_r (and_r (and_l (and_r hn)))))))))))
  | 3, _ => exact (and_r (and_r (and_r (and_r (and_r (and_l (and_l (and_r (and_r (and_l (and_r hn)))))))))))
  | 4, _ => exact (and_l (and_l (and_l (and_r (and_r (and_l (and_r (and_r (and_l (and_r hn))))))))))
  | 5, _ => exact (and_l (and_l (and_l (and_l (and_l (and_r (and_r (and_r (and_l (and_r hn))))))))))
  | 6, _ => exact (and_r (and_l (and_l (and_l (and_l (and_l (and_l (and_l (and_r (and_r hn))))))))))
  | 7, _ => exact (and_l (and_r (and_r (and_r (and_r (and_l (and_l (and_l (and_l (and_r (and_r hn)))))))))))
  | 8, _ => exact (and_l (and_l (and_r (and_r (and_r (and_l (and_l (and_l (and_r (and_r hn))))))))))
  | 9, _ => exact (and_l (and_r (and_r (and_l (and_l (and_r (and_r (and_r (and_l (and_r hn))))))))))
  | 10, _ => exact (and_l (and_r (and_r (and_r (and_r (and_l (and_r (and_r (and_r (and_l (and_r hn)))))))))))
  | 11, _ => exact (and_r (and_r (and_r (and_r (and_l (and_r (and_r (and_r (and_r (and_l (and_r hn)))))))))))
  | i + 12, hi => exact absurd (show i + 12 < 12 from hi) (by omega)
theorem go_le {s : State} {b : Nat} (hn : narrow_1.before #[Value.ref b] s = true) : ∀ i : Nat, i < sN → (Cond.eq (.length (.field (sTm i) "java/lang/String" "value" "[B")) (.int (Int32.ofNat (sLen.getD i 0)))).before #[Value.ref b] s = true := by
  intro i hi
  match i, hi with
  | 0, _ => exact (and_l (and_l (and_r (and_r (and_r (and_r (and_r (and_l (and_r (and_l (and_r hn)))))))))))
  | 1, _ => exact (and_l (and_r (and_r (and_l (and_l (and_l (and_l (and_r (and_r (and_l (and_r hn)))))))))))
  | 2, _ => exact (and_l (and_r (and_l (and_r (and_l (and_l (and_r (and_r (and_l (and_r hn))))))))))
  | 3, _ => exact (and_l (and_l (and_l (and_l (and_r (and_l (and_r (and_r (and_l (and_r hn))))))))))
  | 4, _ => exact (and_l (and_r (and_l (and_l (and_r (and_r (and_l (and_r (and_r (and_l (and_r hn)))))))))))
  | 5, _ => exact (and_l (and_r (and_l (and_l (and_l (and_l (and_r (and_r (and_r (and_l (and_r hn)))))))))))
  | 6, _ => exact (and_l (and_r (and_l (and_l (and_l (and_l (and_l (and_l (and_r (and_r hn))))))))))
  | 7, _ => exact (and_r (and_r (and_r (and_r (and_r (and_l (and_l (and_l (and_l (and_r (and_r hn)))))))))))
  | 8, _ => exact (and_l (and_r (and_l (and_r (and_r (and_r (and_l (and_l (and_l (and_r (and_r hn)))))))))))
  | 9, _ => exact (and_l (and_r (and_r (and_r (and_l (and_l (and_r (and_r (and_r (and_l (and_r hn)))))))))))
  | 10, _ => exact (and_r (and_r (and_r (and_r (and_r (and_l (and_r (and_r (and_r (and_l (and_r hn)))))))))))
  | 11, _ => exact (and_l (and_l (and_l (and_r (and_r (and_r (and_r (and_r (and_l (and_r hn))))))))))
  | i + 12, hi => exact absurd (show i + 12 < 12 from hi) (by omega)
theorem go_el0 {s : State} {b : Nat} (hn : narrow_1.before #[Value.ref b] s = true) : ∀ j : Nat, j < sLen.getD 0 0 → (Cond.eq (.elem (.field (sTm 0) "java/lang/String" "value" "[B") (.int (Int32.ofNat j))) (.int ((sByt.getD 0 []).getD j 0))).before #[Value.ref b] s = true := by
  intro j hj
  match j, hj with
  | 0, _ => exact (and_r (and_l (and_r (and_r (and_r (and_r (and_r (and_l (and_r (and_l (and_r hn)))))))))))
  | 1, _ => exact (and_l (and_r (and_r (and_r (and_r (and_r (and_r (and_l (and_r (and_l (and_r hn)))))))))))
  | 2, _ => exact (and_r (and_r (and_r (and_r (and_r (and_r (and_r (and_l (and_r (and_l (and_r hn)))))))))))
  | 3, _ => exact (and_l (and_l (and_l (and_l (and_l (and_l (and_r (and_r (and_l (and_r hn))))))))))
  | j + 4, hj => exact absurd (show j + 4 < 4 from hj) (by omega)
theorem go_el1 {s : State} {b : Nat} (hn : narrow_1.before #[Value.ref b] s = true) : ∀ j : Nat, j < sLen.getD 1 0 → (Cond.eq (.elem (.field (sTm 1) "java/lang/String" "value" "[B") (.int (Int32.ofNat j))) (.int ((sByt.getD 1 []).getD j 0))).before #[Value.ref b] s = true := by
  intro j hj
  match j, hj with
  | 0, _ => exact (and_r (and_r (and_r (and_l (and_l (and_l (and_l (and_r (and_r (and_l (and_r hn)))))))))))
  | 1, _ => exact (and_l (and_l (and_r (and_l (and_l (and_l (and_r (and_r (and_l (and_r hn))))))))))
  | 2, _ => exact (and_l (and_r (and_l (and_r (and_l (and_l (and_l (and_r (and_r (and_l (and_r hn)))))))))))
  | 3, _ => exact (and_r (and_r (and_l (and_r (and_l (and_l (and_l (and_r (and_r (and_l (and_r hn)))))))))))
  | 4, _ => exact (and_l (and_r (and_r (and_l (and_l (and_l (and_r (and_r (and_l (and_r hn))))))))))
  | 5, _ => exact (and_l (and_r (and_r (and_r (and_l (and_l (and_l (and_r (and_r (and_l (and_r hn)))))))))))
  | j + 6, hj => exact absurd (show j + 6 < 6 from hj) (by omega)
theorem go_el2 {s : State} {b : Nat} (hn : narrow_1.before #[Value.ref b] s = true) : ∀ j : Nat, j < sLen.getD 2 0 → (Cond.eq (.elem (.field (sTm 2) "java/lang/String" "value" "[B") (.int (Int32.ofNat j))) (.int ((sByt.getD 2 []).getD j 0))).before #[Value.ref b] s = true := by
  intro j hj
  match j, hj with
  | 0, _ => exact (and_l (and_r (and_r (and_l (and_r (and_l (and_l (and_r (and_r (and_l (and_r hn)))))))))))
  | 1, _ => exact (and_r (and_r (and_r (and_l (and_r (and_l (and_l (and_r (and_r (and_l (and_r hn)))))))))))
  | 2, _ => exact (and_l (and_l (and_r (and_r (and_l (and_l (and_r (and_r (and_l (and_r hn))))))))))
  | 3, _ => exact (and_l (and_r (and_l (and_r (and_r (and_l (and_l (and_r (and_r (and_l (and_r hn)))))))))))
  | j + 4, hj => exact absurd (show j + 4 < 4 from hj) (by omega)
theorem go_el3 {s : State} {b : Nat} (hn : narrow_1.before #[Value.ref b] s = true) : ∀ j : Nat, j < sLen.getD 3 0 → (Cond.eq (.elem (.field (sTm 3) "java/lang/String" "value" "[B") (.int (Int32.ofNat j))) (.int ((sByt.getD 3 []).getD j 0))).before #[Value.ref b] s = true := by
  intro j hj
  match j, hj with
  | 0, _ => exact (and_l (and_r (and_l (and_l (and_l (and_r (and_l (and_r (and_r (and_l (and_r hn)))))))))))
  | 1, _ => exact (and_r (and_r (and_l (and_l (and_l (and_r (and_l (and_r (and_r (and_l (and_r hn)))))))))))
  | 2, _ => exact (and_l (and_r (and_l (and_l (and_r (and_l (and_r (and_r (and_l (and_r hn))))))))))
  | 3, _ => exact (and_l (and_r (and_r (and_l (and_l (and_r (and_l (and_r (and_r (and_l (and_r hn)))))))))))
  | 4, _ => exact (and_r (and_r (and_r (and_l (and_l (and_r (and_l (and_r (and_r (and_l (and_r hn)))))))))))
  | 5, _ => exact (and_l (and_l (and_r (and_l (and_r (and_l (and_r (and_r (and_l (and_r hn))))))))))
  | j + 6, hj => exact absurd (show j + 6 < 6 from hj) (by omega)
theorem go_el4 {s : State} {b : Nat} (hn : narrow_1.before #[Value.ref b] s = true) : ∀ j : Nat, j < sLen.getD 4 0 → (Cond.eq (.elem (.field (sTm 4) "java/lang/String" "value" "[B") (.int (Int32.ofNat j))) (.int ((sByt.getD 4 []).getD j 0))).before #[Value.ref b] s = true := by
  intro j hj
  match j, hj with
  | 0, _ => exact (and_r (and_r (and_l (and_l (and_r (and_r (and_l (and_r (and_r (and_l (and_r hn)))))))))))
  | 1, _ => exact (and_l (and_r (and_l (and_r (and_r (and_l (and_r (and_r (and_l (and_r hn))))))))))
  | 2, _ => exact (and_l (and_r (and_r (and_l (and_r (and_r (and_l (and_r (and_r (and_l (and_r hn)))))))))))
  | 3, _ => exact (and_r (and_r (and_r (and_l (and_r (and_r (and_l (and_r (and_r (and_l (and_r hn)))))))))))
  | 4, _ => exact (and_l (and_l (and_r (and_r (and_r (and_l (and_r (and_r (and_l (and_r hn))))))))))
  | j + 5, hj => exact absurd (show j + 5 < 5 from hj) (by omega)
theorem go_el5 {s : State} {b : Nat} (hn : narrow_1.before #[Value.ref b] s = true) : ∀ j : Nat, j < sLen.getD 5 0 → (Cond.eq (.elem (.field (sTm 5) "java/lang/String" "value" "[B") (.int (Int32.ofNat j))) (.int ((sByt.getD 5 []).getD j 0))).before #[Value.ref b] s = true := by
  intro j hj
  exact absurd hj (Nat.not_lt_zero j)
theorem go_el6 {s : State} {b : Nat} (hn : narrow_1.before #[Value.ref b] s = true) : ∀ j : Nat, j < sLen.getD 6 0 → (Cond.eq (.elem (.field (sTm 6) "java/lang/String" "value" "[B") (.int (Int32.ofNat j))) (.int ((sByt.getD 6 []).getD j 0))).before #[Value.ref b] s = true := by
  intro j hj
  match j, hj with
  | 0, _ => exact (and_l (and_r (and_r (and_l (and_l (and_l (and_l (and_l (and_l (and_r (and_r hn)))))))))))
  | 1, _ => exact (and_r (and_r (and_r (and_l (and_l (and_l (and_l (and_l (and_l (and_r (and_r hn)))))))))))
  | 2, _ => exact (and_l (and_l (and_r (and_l (and_l (and_l (and_l (and_l (and_r (and_r hn))))))))))
  | 3, _ => exact (and_l (and_r (and_l (and_r (and_l (and_l (and_l (and_l (and_l (and_r (and_r hn)))))))))))
  | 4, _ => exact (and_r (and_r (and_l (and_r (and_l (and_l (and_l (and_l (and_l (and_r (and_r hn)))))))))))
  | 5, _ => exact (and_l (and_r (and_r (and_l (and_l (and_l (and_l (and_l (and_r (and_r hn))))))))))
  | j + 6, hj => exact absurd (show j + 6 < 6 from hj) (by omega)
theorem go_el7 {s : State} {b : Nat} (hn : narrow_1.before #[Value.ref b] s = true) : ∀ j : Nat, j < sLen.getD 7 0 → (Cond.eq (.elem (.field (sTm 7) "java/lang/String" "value" "[B") (.int (Int32.ofNat j))) (.int ((sByt.getD 7 []).getD j 0))).before #[Value.ref b] s = true := by
  intro j hj
  match j, hj with
  | 0, _ => exact (and_l (and_l (and_l (and_l (and_r (and_l (and_l (and_l (and_r (and_r hn))))))))))
  | 1, _ => exact (and_r (and_l (and_l (and_l (and_r (and_l (and_l (and_l (and_r (and_r hn))))))))))
  | 2, _ => exact (and_l (and_r (and_l (and_l (and_r (and_l (and_l (and_l (and_r (and_r hn))))))))))
  | 3, _ => exact (and_l (and_r (and_r (and_l (and_l (and_r (and_l (and_l (and_l (and_r (and_r hn)))))))))))
  | j + 4, hj => exact absurd (show j + 4 < 4 from hj) (by omega)
theorem go_el8 {s : State} {b : Nat} (hn : narrow_1.before #[Value.ref b] s = true) : ∀ j : Nat, j < sLen.getD 8 0 → (Cond.eq (.elem (.field (sTm 8) "java/lang/String" "value" "[B") (.int (Int32.ofNat j))) (.int ((sByt.getD 8 []).getD j 0))).before #[Value.ref b] s = true := by
  intro j hj
  match j, hj with
  | 0, _ => exact (and_r (and_r (and_l (and_r (and_r (and_r (and_l (and_l (and_l (and_r (and_r hn)))))))))))
  | 1, _ => exact (and_l (and_r (and_r (and_r (and_r (and_l (and_l (and_l (and_r (and_r hn))))))))))
  | 2, _ => exact (and_l (and_r (and_r (and_r (and_r (and_r (and_l (and_l (and_l (and_r (and_r hn)))))))))))
  | 3, _ => exact (and_r (and_r (and_r (and_r (and_r (and_r (and_l (and_l (and_l (and_r (and_r hn)))))))))))
  | j + 4, hj => exact absurd (show j + 4 < 4 from hj) (by omega)
theorem go_el9 {s : State} {b : Nat} (hn : narrow_1.before #[Value.ref b] s = true) : ∀ j : Nat, j < sLen.getD 9 0 → (Cond.eq (.elem (.field (sTm 9) "java/lang/String" "value" "[B") (.int (Int32.ofNat j))) (.int ((sByt.getD 9 []).getD j 0))).before #[Value.ref b] s = true := by
  intro j hj
  match j, hj with
  | 0, _ => exact (and_r (and_r (and_r (and_r (and_l (and_l (and_r (and_r (and_r (and_l (and_r hn)))))))))))
  | 1, _ => exact (and_l (and_l (and_l (and_r (and_l (and_r (and_r (and_r (and_l (and_r hn))))))))))
  | 2, _ => exact (and_l (and_r (and_l (and_l (and_r (and_l (and_r (and_r (and_r (and_l (and_r hn)))))))))))
  | 3, _ => exact (and_r (and_r (and_l (and_l (and_r (and_l (and_r (and_r (and_r (and_l (and_r hn)))))))))))
  | j + 4, hj => exact absurd (show j + 4 < 4 from hj) (by omega)
theorem go_el10 {s : State} {b : Nat} (hn : narrow_1.before #[Value.ref b] s = true) : ∀ j : Nat, j < sLen.getD 10 0 → (Cond.eq (.elem (.field (sTm 10) "java/lang/String" "value" "[B") (.int (Int32.ofNat j))) (.int ((sByt.getD 10 []).getD j 0))).before #[Value.ref b] s = true := by
  intro j hj
  match j, hj with
  | 0, _ => exact (and_l (and_l (and_l (and_l (and_r (and_r (and_r (and_r (and_l (and_r hn))))))))))
  | 1, _ => exact (and_l (and_r (and_l (and_l (and_l (and_r (and_r (and_r (and_r (and_l (and_r hn)))))))))))
  | j + 2, hj => exact absurd (show j + 2 < 2 from hj) (by omega)
theorem go_el11 {s : State} {b : Nat} (hn : narrow_1.before #[Value.ref b] s = true) : ∀ j : Nat, j < sLen.getD 11 0 → (Cond.eq (.elem (.field (sTm 11) "java/lang/String" "value" "[B") (.int (Int32.ofNat j))) (.int ((sByt.getD 11 []).getD j 0))).before #[Value.ref b] s = true := by
  intro j hj
  match j, hj with
  | 0, _ => exact (and_l (and_r (and_l (and_l (and_r (and_r (and_r (and_r (and_r (and_l (and_r hn)))))))))))
  | 1, _ => exact (and_r (and_r (and_l (and_l (and_r (and_r (and_r (and_r (and_r (and_l (and_r hn)))))))))))
  | 2, _ => exact (and_l (and_r (and_l (and_r (and_r (and_r (and_r (and_r (and_l (and_r hn))))))))))
  | j + 3, hj => exact absurd (show j + 3 < 3 from hj) (by omega)
theorem go_ne0 {s : State} {b : Nat} (hn : narrow_1.before #[Value.ref b] s = true) : ∀ j : Nat, j < sN → 0 ≠ j → (Cond.not (Cond.eq (sTm 0) (sTm j))).before #[Value.ref b] s = true ∨ (Cond.not (Cond.eq (sTm j) (sTm 0))).before #[Value.ref b] s = true := by
  intro j hj hn0
  match j, hj, hn0 with
  | 0, _, h => exact absurd rfl h
  | 1, _, h => exact (Or.inl (and_r (and_r (and_r (and_r (and_l (and_l (and_l (and_r (and_r (and_l (and_r hn))))))))))))
  | 2, _, h => exact (Or.inl (and_r (and_r (and_l (and_r (and_r (and_l (and_l (and_r (and_r (and_l (and_r hn))))))))))))
  | 3, _, h => exact (Or.inl (and_l (and_r (and_l (and_r (and_l (and_r (and_l (and_r (and_r (and_l (and_r hn))))))))))))
  | 4, _, h => exact (Or.inl (and_l (and_r (and_l (and_r (and_r (and_r (and_l (and_r (and_r (and_l (and_r hn))))))))))))
  | 5, _, h => exact (Or.inl (and_r (and_r (and_l (and_l (and_l (and_l (and_r (and_r (and_r (and_l (and_r hn))))))))))))
  | 6, _, h => exact (Or.inl (and_l (and_r (and_r (and_r (and_l (and_l (and_l (and_l (and_l (and_r (and_r hn))))))))))))
  | 7, _, h => exact (Or.inl (and_r (and_r (and_r (and_l (and_l (and_r (and_l (and_l (and_l (and_r (and_r hn))))))))))))
  | 8, _, h => exact (Or.inl (and_l (and_l (and_l (and_l (and_l (and_r (and_l (and_l (and_r (and_r hn)))))))))))
  | 9, _, h => exact (Or.inl (and_l (and_r (and_l (and_r (and_l (and_r (and_r (and_r (and_l (and_r hn)))))))))))
  | 10, _, h => exact (Or.inl (and_r (and_r (and_l (and_l (and_l (and_r (and_r (and_r (and_r (and_l (and_r hn))))))))))))
  | 11, _, h => exact (Or.inl (and_l (and_r (and_r (and_l (and_r (and_r (and_r (and_r (and_r (and_l (and_r hn))))))))))))
  | j + 12, hj, _ => exact absurd (show j + 12 < 12 from hj) (by omega)
theorem go_ne1 {s : State} {b : Nat} (hn : narrow_1.before #[Value.ref b] s = true) : ∀ j : Nat, j < sN → 1 ≠ j → (Cond.not (Cond.eq (sTm 1) (sTm j))).before #[Value.ref b] s = true ∨ (Cond.not (Cond.eq (sTm j) (sTm 1))).before #[Value.ref b] s = true := by
  intro j hj hn0
  match j, hj, hn0 with
  | 0, _, h => exact (Or.inr (and_r (and_r (and_r (and_r (and_l (and_l (and_l (and_r (and_r (and_l (and_r hn))))))))))))
  | 1, _, h => exact absurd rfl h
  | 2, _, h => exact (Or.inl (and_l (and_l (and_r (and_r (and_r (and_l (and_l (and_r (and_r (and_l (and_r hn))))))))))))
  | 3, _, h => exact (Or.inl (and_r (and_r (and_l (and_r (and_l (and_r (and_l (and_r (and_r (and_l (and_r hn))))))))))))
  | 4, _, h => exact (Or.inl (and_r (and_r (and_l (and_r (and_r (and_r (and_l (and_r (and_r (and_l (and_r hn))))))))))))
  | 5, _, h => exact (Or.inl (and_l (and_r (and_l (and_l (and_l (and_r (and_r (and_r (and_l (and_r hn)))))))))))
  | 6, _, h => exact (Or.inl (and_r (and_r (and_r (and_r (and_l (and_l (and_l (and_l (and_l (and_r (and_r hn))))))))))))
  | 7, _, h => exact (Or.inl (and_l (and_l (and_r (and_l (and_r (and_l (and_l (and_l (and_r (and_r hn)))))))))))
  | 8, _, h => exact (Or.inl (and_r (and_l (and_l (and_l (and_l (and_r (and_l (and_l (and_r (and_r hn)))))))))))
  | 9, _, h => exact (Or.inl (and_l (and_r (and_r (and_l (and_r (and_l (and_r (and_r (and_r (and_l (and_r hn))))))))))))
  | 10, _, h => exact (Or.inl (and_l (and_r (and_l (and_l (and_r (and_r (and_r (and_r (and_l (and_r hn)))))))))))
  | 11, _, h => exact (Or.inl (and_r (and_r (and_r (and_l (and_r (and_r (and_r (and_r (and_r (and_l (and_r hn))))))))))))
  | j + 12, hj, _ => exact absurd (show j + 12 < 12 from hj) (by omega)
theorem go_ne2 {s : State} {b : Nat} (hn : narrow_1.before #[Value.ref b] s = true) : ∀ j : Nat, j < sN → 2 ≠ j → (Cond.not (Cond.eq (sTm 2) (sTm j))).before #[Value.ref b] s = true ∨ (Cond.not (Cond.eq (sTm j) (sTm 2))).before #[Value.ref b] s = true := by
  intro j hj hn0
  match j, hj, hn0 with
  | 0, _, h => exact (Or.inr (and_r (and_r (and_l (and_r (and_r (and_l (and_l (and_r (and_r (and_l (and_r hn))))))))))))
  | 1, _, h => exact (Or.inr (and_l (and_l (and_r (and_r (and_r (and_l (and_l (and_r (and_r (and_l (and_r hn))))))))))))
  | 2, _, h => exact absurd rfl h
  | 3, _, h => exact (Or.inl (and_l (and_r (and_r (and_l (and_r (and_l (and_r (and_r (and_l (and_r hn)))))))))))
  | 4, _, h => exact (Or.inl (and_l (and_l (and_r (and_r (and_r (and_r (and_l (and_r (and_r (and_l (and_r hn))))))))))))
  | 5, _, h => exact (Or.inl (and_l (and_r (and_r (and_l (and_l (and_l (and_r (and_r (and_r (and_l (and_r hn))))))))))))
  | 6, _, h => exact (Or.inl (and_l (and_l (and_l (and_r (and_l (and_l (and_l (and_l (and_r (and_r hn)))))))))))
  | 7, _, h => exact (Or.inl (and_l (and_r (and_l (and_r (and_l (and_r (and_l (and_l (and_l (and_r (and_r hn))))))))))))
  | 8, _, h => exact (Or.inl (and_l (and_r (and_l (and_l (and_l (and_r (and_l (and_l (and_r (and_r hn)))))))))))
  | 9, _, h => exact (Or.inl (and_r (and_r (and_r (and_l (and_r (and_l (and_r (and_r (and_r (and_l (and_r hn))))))))))))
  | 10, _, h => exact (Or.inl (and_l (and_r (and_r (and_l (and_l (and_r (and_r (and_r (and_r (and_l (and_r hn))))))))))))
  | 11, _, h => exact (Or.inl (and_l (and_l (and_r (and_r (and_r (and_r (and_r (and_r (and_l (and_r hn)))))))))))
  | j + 12, hj, _ => exact absurd (show j + 12 < 12 from hj) (by omega)
theorem go_ne3 {s : State} {b : Nat} (hn : narrow_1.before #[Value.ref b] s = true) : ∀ j : Nat, j < sN → 3 ≠ j → (Cond.not (Cond.eq (sTm 3) (sTm j))).before #[Value.ref b] s = true ∨ (Cond.not (Cond.eq (sTm j) (sTm 3))).before #[Value.ref b] s = true := by
  intro j hj hn0
  match j, hj, hn0 with
  | 0, _, h => exact (Or.inr (and_l (and_r (and_l (and_r (and_l (and_r (and_l (and_r (and_r (and_l (and_r hn))))))))))))
  | 1, _, h => exact (Or.inr (and_r (and_r (and_l (and_r (and_l (and_r (and_l (and_r (and_r (and_l (and_r hn))))))))))))
  | 2, _, h => exact (Or.inr (and_l (and_r (and_r (and_l (and_r (and_l (and_r (and_r (and_l (and_r hn)))))))))))
  | 3, _, h => exact absurd rfl h
  | 4, _, h => exact (Or.inl (and_r (and_l (and_r (and_r (and_r (and_r (and_l (and_r (and_r (and_l (and_r hn))))))))))))
  | 5, _, h => exact (Or.inl (and_r (and_r (and_r (and_l (and_l (and_l (and_r (and_r (and_r (and_l (and_r hn))))))))))))
  | 6, _, h => exact (Or.inl (and_r (and_l (and_l (and_r (and_l (and_l (and_l (and_l (and_r (and_r hn)))))))))))
  | 7, _, h => exact (Or.inl (and_r (and_r (and_l (and_r (and_l (and_r (and_l (and_l (and_l (and_r (and_r hn))))))))))))
  | 8, _, h => exact (Or.inl (and_l (and_r (and_r (and_l (and_l (and_l (and_r (and_l (and_l (and_r (and_r hn))))))))))))
  | 9, _, h => exact (Or.inl (and_l (and_l (and_r (and_r (and_l (and_r (and_r (and_r (and_l (and_r hn)))))))))))
  | 10, _, h => exact (Or.inl (and_r (and_r (and_r (and_l (and_l (and_r (and_r (and_r (and_r (and_l (and_r hn))))))))))))
  | 11, _, h => exact (Or.inl (and_l (and_r (and_l (and_r (and_r (and_r (and_r (and_r (and_r (and_l (and_r hn))))))))))))
  | j + 12, hj, _ => exact absurd (show j + 12 < 12 from hj) (by omega)
theorem go_ne4 {s : State} {b : Nat} (hn : narrow_1.before #[Value.ref b] s = true) : ∀ j : Nat, j < sN → 4 ≠ j → (Cond.not (Cond.eq (sTm 4) (sTm j))).before #[Value.ref b] s = true ∨ (Cond.not (Cond.eq (sTm j) (sTm 4))).before #[Value.ref b] s = true := by
  intro j hj hn0
  match j, hj, hn0 with
  | 0, _, h => exact (Or.inr (and_l (and_r (and_l (and_r (and_r (and_r (and_l (and_r (and_r (and_l (and_r hn))))))))))))
  | 1, _, h => exact (Or.inr (and_r (and_r (and_l (and_r (and_r (and_r (and_l (and_r (and_r (and_l (and_r hn))))))))))))
  | 2, _, h => exact (Or.inr (and_l (and_l (and_r (and_r (and_r (and_r (and_l (and_r (and_r (and_l (and_r hn))))))))))))
  | 3, _, h => exact (Or.inr (and_r (and_l (and_r (and_r (and_r (and_r (and_l (and_r (and_r (and_l (and_r hn))))))))))))
  | 4, _, h => exact absurd rfl h
  | 5, _, h => exact (Or.inl (and_l (and_l (and_r (and_l (and_l (and_r (and_r (and_r (and_l (and_r hn)))))))))))
  | 6, _, h => exact (Or.inl (and_l (and_r (and_l (and_r (and_l (and_l (and_l (and_l (and_r (and_r hn)))))))))))
  | 7, _, h => exact (Or.inl (and_l (and_r (and_r (and_l (and_r (and_l (and_l (and_l (and_r (and_r hn)))))))))))
  | 8, _, h => exact (Or.inl (and_r (and_r (and_r (and_l (and_l (and_l (and_r (and_l (and_l (and_r (and_r hn))))))))))))
  | 9, _, h => exact (Or.inl (and_l (and_r (and_l (and_r (and_r (and_l (and_r (and_r (and_r (and_l (and_r hn))))))))))))
  | 10, _, h => exact (Or.inl (and_l (and_l (and_r (and_l (and_r (and_r (and_r (and_r (and_l (and_r hn)))))))))))
  | 11, _, h => exact (Or.inl (and_r (and_r (and_l (and_r (and_r (and_r (and_r (and_r (and_r (and_l (and_r hn))))))))))))
  | j + 12, hj, _ => exact absurd (show j + 12 < 12 from hj) (by omega)
theorem go_ne5 {s : State} {b : Nat} (hn : narrow_1.before #[Value.ref b] s = true) : ∀ j : Nat, j < sN → 5 ≠ j → (Cond.not (Cond.eq (sTm 5) (sTm j))).before #[Value.ref b] s = true ∨ (Cond.not (Cond.eq (sTm j) (sTm 5))).before #[Value.ref b] s = true := by
  intro j hj hn0
  match j, hj, hn0 with
  | 0, _, h => exact (Or.inr (and_r (and_r (and_l (and_l (and_l (and_l (and_r (and_r (and_r (and_l (and_r hn))))))))))))
  | 1, _, h => exact (Or.inr (and_l (and_r (and_l (and_l (and_l (and_r (and_r (and_r (and_l (and_r hn)))))))))))
  | 2, _, h => exact (Or.inr (and_l (and_r (and_r (and_l (and_l (and_l (and_r (and_r (and_r (and_l (and_r hn))))))))))))
  | 3, _, h => exact (Or.inr (and_r (and_r (and_r (and_l (and_l (and_l (and_r (and_r (and_r (and_l (and_r hn))))))))))))
  | 4, _, h => exact (Or.inr (and_l (and_l (and_r (and_l (and_l (and_r (and_r (and_r (and_l (and_r hn)))))))))))
  | 5, _, h => exact absurd rfl h
  | 6, _, h => exact (Or.inl (and_l (and_r (and_r (and_l (and_r (and_l (and_l (and_l (and_l (and_r (and_r hn))))))))))))
  | 7, _, h => exact (Or.inl (and_l (and_r (and_r (and_r (and_l (and_r (and_l (and_l (and_l (and_r (and_r hn))))))))))))
  | 8, _, h => exact (Or.inl (and_l (and_l (and_r (and_l (and_l (and_r (and_l (and_l (and_r (and_r hn)))))))))))
  | 9, _, h => exact (Or.inl (and_r (and_r (and_l (and_r (and_r (and_l (and_r (and_r (and_r (and_l (and_r hn))))))))))))
  | 10, _, h => exact (Or.inl (and_l (and_r (and_l (and_r (and_l (and_r (and_r (and_r (and_r (and_l (and_r hn))))))))))))
  | 11, _, h => exact (Or.inl (and_l (and_l (and_r (and_r (and_r (and_r (and_r (and_r (and_r (and_l (and_r hn))))))))))))
  | j + 12, hj, _ => exact absurd (show j + 12 < 12 from hj) (by omega)
theorem go_ne6 {s : State} {b : Nat} (hn : narrow_1.before #[Value.ref b] s = true) : ∀ j : Nat, j < sN → 6 ≠ j → (Cond.not (Cond.eq (sTm 6) (sTm j))).before #[Value.ref b] s = true ∨ (Cond.not (Cond.eq (sTm j) (sTm 6))).before #[Value.ref b] s = true := by
  intro j hj hn0
  match j, hj, hn0 with
  | 0, _, h => exact (Or.inr (and_l (and_r (and_r (and_r (and_l (and_l (and_l (and_l (and_l (and_r (and_r hn))))))))))))
  | 1, _, h => exact (Or.inr (and_r (and_r (and_r (and_r (and_l (and_l (and_l (and_l (and_l (and_r (and_r hn))))))))))))
  | 2, _, h => exact (Or.inr (and_l (and_l (and_l (and_r (and_l (and_l (and_l (and_l (and_r (and_r hn)))))))))))
  | 3, _, h => exact (Or.inr (and_r (and_l (and_l (and_r (and_l (and_l (and_l (and_l (and_r (and_r hn)))))))))))
  | 4, _, h => exact (Or.inr (and_l (and_r (and_l (and_r (and_l (and_l (and_l (and_l (and_r (and_r hn)))))))))))
  | 5, _, h => exact (Or.inr (and_l (and_r (and_r (and_l (and_r (and_l (and_l (and_l (and_l (and_r (and_r hn))))))))))))
  | 6, _, h => exact absurd rfl h
  | 7, _, h => exact (Or.inl (and_l (and_r (and_l (and_r (and_r (and_l (and_l (and_l (and_r (and_r hn)))))))))))
  | 8, _, h => exact (Or.inl (and_l (and_r (and_r (and_r (and_l (and_l (and_r (and_l (and_l (and_r (and_r hn))))))))))))
  | 9, _, h => exact (Or.inr (and_r (and_r (and_r (and_l (and_r (and_l (and_l (and_l (and_l (and_r (and_r hn))))))))))))
  | 10, _, h => exact (Or.inr (and_l (and_l (and_r (and_r (and_l (and_l (and_l (and_l (and_r (and_r hn)))))))))))
  | 11, _, h => exact (Or.inr (and_l (and_r (and_l (and_r (and_r (and_l (and_l (and_l (and_l (and_r (and_r hn))))))))))))
  | j + 12, hj, _ => exact absurd (show j + 12 < 12 from hj) (by omega)
theorem go_ne7 {s : State} {b : Nat} (hn : narrow_1.before #[Value.ref b] s = true) : ∀ j : Nat, j < sN → 7 ≠ j → (Cond.not (Cond.eq (sTm 7) (sTm j))).before #[Value.ref b] s = true ∨ (Cond.not (Cond.eq (sTm j) (sTm 7))).before #[Value.ref b] s = true := by
  intro j hj hn0
  match j, hj, hn0 with
  | 0, _, h => exact (Or.inr (and_r (and_r (and_r (and_l (and_l (and_r (and_l (and_l (and_l (and_r (and_r hn))))))))))))
  | 1, _, h => exact (Or.inr (and_l (and_l (and_r (and_l (and_r (and_l (and_l (and_l (and_r (and_r hn)))))))))))
  | 2, _, h => exact (Or.inr (and_l (and_r (and_l (and_r (and_l (and_r (and_l (and_l (and_l (and_r (and_r hn))))))))))))
  | 3, _, h => exact (Or.inr (and_r (and_r (and_l (and_r (and_l (and_r (and_l (and_l (and_l (and_r (and_r hn))))))))))))
  | 4, _, h => exact (Or.inr (and_l (and_r (and_r (and_l (and_r (and_l (and_l (and_l (and_r (and_r hn)))))))))))
  | 5, _, h => exact (Or.inr (and_l (and_r (and_r (and_r (and_l (and_r (and_l (and_l (and_l (and_r (and_r hn))))))))))))
  | 6, _, h => exact (Or.inr (and_l (and_r (and_l (and_r (and_r (and_l (and_l (and_l (and_r (and_r hn)))))))))))
  | 7, _, h => exact absurd rfl h
  | 8, _, h => exact (Or.inl (and_r (and_r (and_r (and_r (and_l (and_l (and_r (and_l (and_l (and_r (and_r hn))))))))))))
  | 9, _, h => exact (Or.inr (and_r (and_r (and_r (and_r (and_l (and_r (and_l (and_l (and_l (and_r (and_r hn))))))))))))
  | 10, _, h => exact (Or.inr (and_l (and_l (and_l (and_r (and_r (and_l (and_l (and_l (and_r (and_r hn)))))))))))
  | 11, _, h => exact (Or.inr (and_r (and_l (and_l (and_r (and_r (and_l (and_l (and_l (and_r (and_r hn)))))))))))
  | j + 12, hj, _ => exact absurd (show j + 12 < 12 from hj) (by omega)
theorem go_ne8 {s : State} {b : Nat} (hn : narrow_1.before #[Value.ref b] s = true) : ∀ j : Nat, j < sN → 8 ≠ j → (Cond.not (Cond.eq (sTm 8) (sTm j))).before #[Value.ref b] s = true ∨ (Cond.not (Cond.eq (sTm j) (sTm 8))).before #[Value.ref b] s = true := by
  intro j hj hn0
  match j, hj, hn0 with
  | 0, _, h => exact (Or.inr (and_l (and_l (and_l (and_l (and_l (and_r (and_l (and_l (and_r (and_r hn)))))))))))
  | 1, _, h => exact (Or.inr (and_r (and_l (and_l (and_l (and_l (and_r (and_l (and_l (and_r (and_r hn)))))))))))
  | 2, _, h => exact (Or.inr (and_l (and_r (and_l (and_l (and_l (and_r (and_l (and_l (and_r (and_r hn)))))))))))
  | 3, _, h => exact (Or.inr (and_l (and_r (and_r (and_l (and_l (and_l (and_r (and_l (and_l (and_r (and_r hn))))))))))))
  | 4, _, h => exact (Or.inr (and_r (and_r (and_r (and_l (and_l (and_l (and_r (and_l (and_l (and_r (and_r hn))))))))))))
  | 5, _, h => exact (Or.inr (and_l (and_l (and_r (and_l (and_l (and_r (and_l (and_l (and_r (and_r hn)))))))))))
  | 6, _, h => exact (Or.inr (and_l (and_r (and_r (and_r (and_l (and_l (and_r (and_l (and_l (and_r (and_r hn))))))))))))
  | 7, _, h => exact (Or.inr (and_r (and_r (and_r (and_r (and_l (and_l (and_r (and_l (and_l (and_r (and_r hn))))))))))))
  | 8, _, h => exact absurd rfl h
  | 9, _, h => exact (Or.inr (and_l (and_r (and_l (and_r (and_l (and_l (and_r (and_l (and_l (and_r (and_r hn))))))))))))
  | 10, _, h => exact (Or.inr (and_r (and_r (and_l (and_r (and_l (and_l (and_r (and_l (and_l (and_r (and_r hn))))))))))))
  | 11, _, h => exact (Or.inr (and_l (and_r (and_r (and_l (and_l (and_r (and_l (and_l (and_r (and_r hn)))))))))))
  | j + 12, hj, _ => exact absurd (show j + 12 < 12 from hj) (by omega)
theorem go_ne9 {s : State} {b : Nat} (hn : narrow_1.before #[Value.ref b] s = true) : ∀ j : Nat, j < sN → 9 ≠ j → (Cond.not (Cond.eq (sTm 9) (sTm j))).before #[Value.ref b] s = true ∨ (Cond.not (Cond.eq (sTm j) (sTm 9))).before #[Value.ref b] s = true := by
  intro j hj hn0
  match j, hj, hn0 with
  | 0, _, h => exact (Or.inr (and_l (and_r (and_l (and_r (and_l (and_r (and_r (and_r (and_l (and_r hn)))))))))))
  | 1, _, h => exact (Or.inr (and_l (and_r (and_r (and_l (and_r (and_l (and_r (and_r (and_r (and_l (and_r hn))))))))))))
  | 2, _, h => exact (Or.inr (and_r (and_r (and_r (and_l (and_r (and_l (and_r (and_r (and_r (and_l (and_r hn))))))))))))
  | 3, _, h => exact (Or.inr (and_l (and_l (and_r (and_r (and_l (and_r (and_r (and_r (and_l (and_r hn)))))))))))
  | 4, _, h => exact (Or.inr (and_l (and_r (and_l (and_r (and_r (and_l (and_r (and_r (and_r (and_l (and_r hn))))))))))))
  | 5, _, h => exact (Or.inr (and_r (and_r (and_l (and_r (and_r (and_l (and_r (and_r (and_r (and_l (and_r hn))))))))))))
  | 6, _, h => exact (Or.inl (and_r (and_r (and_r (and_l (and_r (and_l (and_l (and_l (and_l (and_r (and_r hn))))))))))))
  | 7, _, h => exact (Or.inl (and_r (and_r (and_r (and_r (and_l (and_r (and_l (and_l (and_l (and_r (and_r hn))))))))))))
  | 8, _, h => exact (Or.inl (and_l (and_r (and_l (and_r (and_l (and_l (and_r (and_l (and_l (and_r (and_r hn))))))))))))
  | 9, _, h => exact absurd rfl h
  | 10, _, h => exact (Or.inl (and_r (and_r (and_l (and_r (and_l (and_r (and_r (and_r (and_r (and_l (and_r hn))))))))))))
  | 11, _, h => exact (Or.inl (and_r (and_l (and_r (and_r (and_r (and_r (and_r (and_r (and_r (and_l (and_r hn))))))))))))
  | j + 12, hj, _ => exact absurd (show j + 12 < 12 from hj) (by omega)
theorem go_ne10 {s : State} {b : Nat} (hn : narrow_1.before #[Value.ref b] s = true) : ∀ j : Nat, j < sN → 10 ≠ j → (Cond.not (Cond.eq (sTm 10) (sTm j))).before #[Value.ref b] s = true ∨ (Cond.not (Cond.eq (sTm j) (sTm 10))).before #[Value.ref b] s = true := by
  intro j hj hn0
  match j, hj, hn0 with
  | 0, _, h => exact (Or.inr (and_r (and_r (and_l (and_l (and_l (and_r (and_r (and_r (and_r (and_l (and_r hn))))))))))))
  | 1, _, h => exact (Or.inr (and_l (and_r (and_l (and_l (and_r (and_r (and_r (and_r (and_l (and_r hn)))))))))))
  | 2, _, h => exact (Or.inr (and_l (and_r (and_r (and_l (and_l (and_r (and_r (and_r (and_r (and_l (and_r hn))))))))))))
  | 3, _, h => exact (Or.inr (and_r (and_r (and_r (and_l (and_l (and_r (and_r (and_r (and_r (and_l (and_r hn))))))))))))
  | 4, _, h => exact (Or.inr (and_l (and_l (and_r (and_l (and_r (and_r (and_r (and_r (and_l (and_r hn)))))))))))
  | 5, _, h => exact (Or.inr (and_l (and_r (and_l (and_r (and_l (and_r (and_r (and_r (and_r (and_l (and_r hn))))))))))))
  | 6, _, h => exact (Or.inl (and_l (and_l (and_r (and_r (and_l (and_l (and_l (and_l (and_r (and_r hn)))))))))))
  | 7, _, h => exact (Or.inl (and_l (and_l (and_l (and_r (and_r (and_l (and_l (and_l (and_r (and_r hn)))))))))))
  | 8, _, h => exact (Or.inl (and_r (and_r (and_l (and_r (and_l (and_l (and_r (and_l (and_l (and_r (and_r hn))))))))))))
  | 9, _, h => exact (Or.inr (and_r (and_r (and_l (and_r (and_l (and_r (and_r (and_r (and_r (and_l (and_r hn))))))))))))
  | 10, _, h => exact absurd rfl h
  | 11, _, h => exact (Or.inl (and_l (and_r (and_r (and_r (and_r (and_r (and_r (and_r (and_r (and_l (and_r hn))))))))))))
  | j + 12, hj, _ => exact absurd (show j + 12 < 12 from hj) (by omega)
theorem go_ne11 {s : State} {b : Nat} (hn : narrow_1.before #[Value.ref b] s = true) : ∀ j : Nat, j < sN → 11 ≠ j → (Cond.not (Cond.eq (sTm 11) (sTm j))).before #[Value.ref b] s = true ∨ (Cond.not (Cond.eq (sTm j) (sTm 11))).before #[Value.ref b] s = true := by
  intro j hj hn0
  match j, hj, hn0 with
  | 0, _, h => exact (Or.inr (and_l (and_r (and_r (and_l (and_r (and_r (and_r (and_r (and_r (and_l (and_r hn))))))))))))
  | 1, _, h => exact (Or.inr (and_r (and_r (and_r (and_l (and_r (and_r (and_r (and_r (and_r (and_l (and_r hn))))))))))))
  | 2, _, h => exact (Or.inr (and_l (and_l (and_r (and_r (and_r (and_r (and_r (and_r (and_l (and_r hn)))))))))))
  | 3, _, h => exact (Or.inr (and_l (and_r (and_l (and_r (and_r (and_r (and_r (and_r (and_r (and_l (and_r hn))))))))))))
  | 4, _, h => exact (Or.inr (and_r (and_r (and_l (and_r (and_r (and_r (and_r (and_r (and_r (and_l (and_r hn))))))))))))
  | 5, _, h => exact (Or.inr (and_l (and_l (and_r (and_r (and_r (and_r (and_r (and_r (and_r (and_l (and_r hn))))))))))))
  | 6, _, h => exact (Or.inl (and_l (and_r (and_l (and_r (and_r (and_l (and_l (and_l (and_l (and_r (and_r hn))))))))))))
  | 7, _, h => exact (Or.inl (and_r (and_l (and_l (and_r (and_r (and_l (and_l (and_l (and_r (and_r hn)))))))))))
  | 8, _, h => exact (Or.inl (and_l (and_r (and_r (and_l (and_l (and_r (and_l (and_l (and_r (and_r hn)))))))))))
  | 9, _, h => exact (Or.inr (and_r (and_l (and_r (and_r (and_r (and_r (and_r (and_r (and_r (and_l (and_r hn))))))))))))
  | 10, _, h => exact (Or.inr (and_l (and_r (and_r (and_r (and_r (and_r (and_r (and_r (and_r (and_l (and_r hn))))))))))))
  | 11, _, h => exact absurd rfl h
  | j + 12, hj, _ => exact absurd (show j + 12 < 12 from hj) (by omega)
theorem go_str {s : State} {b : Nat} (hn : narrow_1.before #[Value.ref b] s = true) : ∃ adK adV : Nat → Nat, vk_S sN sLen sByt adK adV (fun q => s.heap.size ≤ q) s s.heap ∧ ∀ i : Nat, i < sN → (sTm i).eval #[Value.ref b] s none [] s = some (.ref (adK i)) := by
  refine vk_Sof (by decide) (go_ex hn) (go_co hn) (go_ar hn) (go_le hn) (fun i hi => ?_) (fun i j hi hj hij => ?_) (fun a h => Nat.not_le.mpr h)
  · match i, hi with
    | 0, _ => exact go_el0 hn
    | 1, _ => exact go_el1 hn
    | 2, _ => exact go_el2 hn
    | 3, _ => exact go_el3 hn
    | 4, _ => exact go_el4 hn
    | 5, _ => exact go_el5 hn
    | 6, _ => exact go_el6 hn
    | 7, _ => exact go_el7 hn
    | 8, _ => exact go_el8 hn
    | 9, _ => exact go_el9 hn
    | 10, _ => exact go_el10 hn
    | 11, _ => exact go_el11 hn
    | i + 12, hi => exact absurd (show i + 12 < 12 from hi) (by omega)
  · match i, hi, hij with
    | 0, _, h => exact go_ne0 hn j hj h
    | 1, _, h => exact go_ne1 hn j hj h
    | 2, _, h => exact go_ne2 hn j hj h
    | 3, _, h => exact go_ne3 hn j hj h
    | 4, _, h => exact go_ne4 hn j hj h
    | 5, _, h => exact go_ne5 hn j hj h
    | 6, _, h => exact go_ne6 hn j hj h
    | 7, _, h => exact go_ne7 hn j hj h
    | 8, _, h => exact go_ne8 hn j hj h
    | 9, _, h => exact go_ne9 hn j hj h
    | 10, _, h => exact go_ne10 hn j hj h
    | 11, _, h => exact go_ne11 hn j hj h
    | i + 12, hi, _ => exact absurd (show i + 12 < 12 from hi) (by omega)
theorem go_ref {s : State} {b : Nat} (hts : ∀ w ∈ lw_tbl, w.before #[Value.ref b] s = true) (hn : narrow_1.before #[Value.ref b] s = true) {adK : Nat → Nat} (h : ∀ i : Nat, i < sN → (sTm i).eval #[Value.ref b] s none [] s = some (.ref (adK i))) : ∀ r ∈ sRefs, vk_R r.1 r.2.1 r.2.2.1 (adK r.2.2.2) s := by
  intro r hr
  obtain ⟨k, hk⟩ := List.getElem?_of_mem hr
  match k, hk with
  | 0, hk => cases hk; exact vk_R.of (hts _ q197) (h 0 (by decide))
  | 1, hk => cases hk; exact vk_R.of (hts _ q198) (h 1 (by decide))
  | 2, hk => cases hk; exact vk_R.of (hts _ q199) (h 2 (by decide))
  | 3, hk => cases hk; exact vk_R.of (hts _ q200) (h 3 (by decide))
  | 4, hk => cases hk; exact vk_R.of (hts _ q201) (h 4 (by decide))
  | 5, hk => cases hk; exact vk_R.of (hts _ q208) (h 5 (by decide))
  | 6, hk => cases hk; exact vk_R.of (hts _ q1849) (h 6 (by decide))
  | 7, hk => cases hk; exact vk_R.of (hts _ q1850) (h 7 (by decide))
  | 8, hk => cases hk; exact vk_R.of (hts _ q1861) (h 8 (by decide))
  | 9, hk => cases hk; exact vk_R.of (hts _ q728) (h 9 (by decide))
  | 10, hk => cases hk; exact vk_R.of (hts _ q770) (h 10 (by decide))
  | 11, hk => cases hk; exact vk_R.of (hts _ q1371) (h 11 (by decide))
  | 12, hk =>
    cases hk
    obtain ⟨a, ha⟩ := ex_of (and_l (and_l (and_l (and_r (and_l (and_r (and_l (and_l (and_r (and_r hn))))))))))
    have e := eq_of (and_l (and_r (and_r (and_r (and_l (and_r (and_l (and_l (and_r (and_r hn)))))))))) (h 0 (by decide)) ha
    exact vk_R.of (hts _ q2163) (by rw [show adK 0 = a from e]; exact ha)
  | 13, hk =>
    cases hk
    obtain ⟨a, ha⟩ := ex_of (and_l (and_r (and_r (and_r (and_l (and_r (and_r (and_l (and_l (and_r (and_r hn)))))))))))
    have e := eq_of (and_l (and_r (and_r (and_r (and_r (and_r (and_l (and_l (and_r (and_r hn)))))))))) (h 1 (by decide)) ha
    exact vk_R.of (hts _ q2173) (by rw [show adK 1 = a from e]; exact ha)
  | 14, hk =>
    cases hk
    obtain ⟨a, ha⟩ := ex_of (and_l (and_r (and_r (and_r (and_l (and_l (and_l (and_r (and_l (and_r (and_r hn)))))))))))
    have e := eq_of (and_l (and_r (and_r (and_r (and_l (and_l (and_r (and_l (and_r (and_r hn)))))))))) (h 2 (by decide)) ha
    exact vk_R.of (hts _ q2174) (by rw [show adK 2 = a from e]; exact ha)
  | 15, hk =>
    cases hk
    obtain ⟨a, ha⟩ := ex_of (and_l (and_r (and_r (and_r (and_l (and_r (and_l (and_r (and_l (and_r (and_r hn)))))))))))
    have e := eq_of (and_r (and_r (and_r (and_r (and_r (and_r (and_l (and_r (and_l (and_r (and_r hn))))))))))) (h 3 (by decide)) ha
    exact vk_R.of (hts _ q2175) (by rw [show adK 3 = a from e]; exact ha)
  | 16, hk =>
    cases hk
    obtain ⟨a, ha⟩ := ex_of (and_l (and_l (and_l (and_r (and_l (and_r (and_r (and_l (and_r (and_r hn))))))))))
    have e := eq_of (and_l (and_r (and_l (and_l (and_r (and_r (and_r (and_l (and_r (and_r hn)))))))))) (h 4 (by decide)) ha
    exact vk_R.of (hts _ q2176) (by rw [show adK 4 = a from e]; exact ha)
  | 17, hk =>
    cases hk
    obtain ⟨a, ha⟩ := ex_of (and_l (and_r (and_l (and_r (and_r (and_r (and_r (and_l (and_r (and_r hn))))))))))
    have e := eq_of (and_l (and_l (and_r (and_l (and_l (and_l (and_l (and_r (and_r (and_r hn)))))))))) (h 9 (by decide)) ha
    exact vk_R.of (hts _ q2190) (by rw [show adK 9 = a from e]; exact ha)
  | 18, hk =>
    cases hk
    obtain ⟨a, ha⟩ := ex_of (and_l (and_l (and_r (and_r (and_l (and_l (and_l (and_r (and_r (and_r hn))))))))))
    have e := eq_of (and_r (and_r (and_l (and_r (and_l (and_r (and_l (and_l (and_r (and_r (and_r hn))))))))))) (h 10 (by decide)) ha
    exact vk_R.of (hts _ q2215) (by rw [show adK 10 = a from e]; exact ha)
  | 19, hk =>
    cases hk
    obtain ⟨a, ha⟩ := ex_of (and_l (and_r (and_l (and_r (and_r (and_r (and_l (and_l (and_r (and_r (and_r hn)))))))))))
    have e := eq_of (and_r (and_r (and_r (and_r (and_l (and_l (and_r (and_l (and_r (and_r (and_r hn))))))))))) (h 11 (by decide)) ha
    exact vk_R.of (hts _ q2323) (by rw [show adK 11 = a from e]; exact ha)
  | 20, hk =>
    cases hk
    obtain ⟨a, ha⟩ := ex_of (and_r (and_r (and_r (and_r (and_r (and_l (and_r (and_l (and_r (and_r (and_r hn)))))))))))
    have e := eq_of (and_l (and_r (and_l (and_r (and_r (and_r (and_r (and_l (and_r (and_r (and_r hn))))))))))) (h 6 (by decide)) ha
    exact vk_R.of (hts _ q2517) (by rw [show adK 6 = a from e]; exact ha)
  | 21, hk =>
    cases hk
    obtain ⟨a, ha⟩ := ex_of (and_l (and_r (and_l (and_r (and_l (and_l (and_l (and_r (and_r (and_r (and_r hn)))))))))))
    have e := eq_of (and_l (and_r (and_l (and_l (and_r (and_l (and_r (and_r (and_r (and_r hn)))))))))) (h 7 (by decide)) ha
    exact vk_R.of (hts _ q2518) (by rw [show adK 7 = a from e]; exact ha)
  | 22, hk =>
    cases hk
    obtain ⟨a, ha⟩ := ex_of (and_r (and_r (and_l (and_l (and_r (and_r (and_l (and_r (and_r (and_r (and_r hn)))))))))))
    have e := eq_of (and_l (and_r (and_r (and_r (and_l (and_l (and_r (and_r (and_r (and_r (and_r hn))))))))))) (h 8 (by decide)) ha
    exact vk_R.of (hts _ q2523) (by rw [show adK 8 = a from e]; exact ha)
  | k + 23, hk => cases hk
theorem go_kind {s : State} {b : Nat} (hts : ∀ w ∈ lw_tbl, w.before #[Value.ref b] s = true) (hn : narrow_1.before #[Value.ref b] s = true) : ∃ ad : Nat → Nat, (∀ k : Nat, k < 5 → va_Z "ToldPowers$Kind" (kNm.getD k "") "LToldPowers$Kind;" (.ref (ad k)) (fun q => s.heap.size ≤ q) s s.heap ∧ va_O (kCl.getD k "") (ad k) (fun q => s.heap.size ≤ q) s s.heap ∧ va_OF "java/lang/Enum" "ordinal" "I" (.int (nI k)) (ad k) (fun q => s.heap.size ≤ q) s s.heap) ∧ ∀ i j : Nat, i < 5 → j < 5 → ad i = ad j → i = j := by
  have hA : ∀ a : Nat, a < s.heap.size → ¬ (s.heap.size ≤ a) := fun a h => Nat.not_le.mpr h
  obtain ⟨a0, e0⟩ := ex_of (and_r (and_r (and_l (and_l (and_l (and_l (and_l (and_l (and_l (and_l hn))))))))))
  obtain ⟨a1, e1⟩ := ex_of (and_l (and_r (and_r (and_l (and_l (and_l (and_l (and_l (and_l (and_l hn))))))))))
  obtain ⟨a2, e2⟩ := ex_of (and_l (and_r (and_l (and_r (and_l (and_l (and_l (and_l (and_l (and_l hn))))))))))
  obtain ⟨a3, e3⟩ := ex_of (and_r (and_r (and_r (and_r (and_l (and_l (and_l (and_l (and_l (and_l hn))))))))))
  obtain ⟨a4, e4⟩ := ex_of (and_l (and_r (and_r (and_l (and_r (and_l (and_l (and_l (and_l (and_l hn))))))))))
  refine ⟨fun k => match k with | 0 => a0 | 1 => a1 | 2 => a2 | 3 => a3 | 4 => a4 | _ => 0, fun k hk => ?_, fun i j hi hj h => ?_⟩
  · match k, hk with
    | 0, _ => exact ⟨va_Zref (hts _ q186) (hts _ (lw_sub q104)) e0 hA, va_Oof (and_r (and_r (and_l (and_l (and_l (and_l (and_l (and_l (and_l (and_l hn)))))))))) e0 hA, vk_OFof e0 (va_eqt (and_l (and_r (and_l (and_l (and_l (and_l (and_l (and_l (and_l hn)))))))))) hA⟩
    | 1, _ => exact ⟨va_Zref (hts _ q188) (hts _ (lw_sub q104)) e1 hA, va_Oof (and_l (and_r (and_r (and_l (and_l (and_l (and_l (and_l (and_l (and_l hn)))))))))) e1 hA, vk_OFof e1 (va_eqt (and_r (and_r (and_r (and_l (and_l (and_l (and_l (and_l (and_l (and_l hn))))))))))) hA⟩
    | 2, _ => exact ⟨va_Zref (hts _ q190) (hts _ (lw_sub q104)) e2 hA, va_Oof (and_l (and_r (and_l (and_r (and_l (and_l (and_l (and_l (and_l (and_l hn)))))))))) e2 hA, vk_OFof e2 (va_eqt (and_r (and_r (and_l (and_r (and_l (and_l (and_l (and_l (and_l (and_l hn))))))))))) hA⟩
    | 3, _ => exact ⟨va_Zref (hts _ q192) (hts _ (lw_sub q104)) e3 hA, va_Oof (and_r (and_r (and_r (and_r (and_l (and_l (and_l (and_l (and_l (and_l hn)))))))))) e3 hA, vk_OFof e3 (va_eqt (and_l (and_l (and_l (and_r (and_l (and_l (and_l (and_l (and_l hn)))))))))) hA⟩
    | 4, _ => exact ⟨va_Zref (hts _ q194) (hts _ (lw_sub q104)) e4 hA, va_Oof (and_l (and_r (and_r (and_l (and_r (and_l (and_l (and_l (and_l (and_l hn)))))))))) e4 hA, vk_OFof e4 (va_eqt (and_r (and_r (and_r (and_l (and_r (and_l (and_l (and_l (and_l (and_l hn))))))))))) hA⟩
    | k + 5, hk => exact absurd hk (by omega)
  · have n01 : a0 ≠ a1 := va_neR (and_l (and_l (and_r (and_l (and_l (and_l (and_l (and_l (and_l hn))))))))) e0 e1
    have n02 : a0 ≠ a2 := va_neR (and_l (and_r (and_r (and_l (and_l (and_l (and_l (and_l (and_l hn))))))))) e0 e2
    have n03 : a0 ≠ a3 := va_neR (and_l (and_r (and_l (and_l (and_r (and_l (and_l (and_l (and_l (and_l hn)))))))))) e0 e3
    have n04 : a0 ≠ a4 := va_neR (and_l (and_l (and_r (and_r (and_l (and_l (and_l (and_l (and_l hn))))))))) e0 e4
    have n12 : a1 ≠ a2 := va_neR (and_l (and_r (and_r (and_r (and_l (and_l (and_l (and_l (and_l (and_l hn)))))))))) e1 e2
    have n13 : a1 ≠ a3 := va_neR (and_r (and_r (and_l (and_l (and_r (and_l (and_l (and_l (and_l (and_l hn)))))))))) e1 e3
    have n14 : a1 ≠ a4 := va_neR (and_l (and_r (and_l (and_r (and_r (and_l (and_l (and_l (and_l (and_l hn)))))))))) e1 e4
    have n23 : a2 ≠ a3 := va_neR (and_l (and_r (and_l (and_r (and_l (and_l (and_l (and_l (and_l hn))))))))) e2 e3
    have n24 : a2 ≠ a4 := va_neR (and_r (and_r (and_l (and_r (and_r (and_l (and_l (and_l (and_l (and_l hn)))))))))) e2 e4
    have n34 : a3 ≠ a4 := va_neR (and_l (and_l (and_r (and_r (and_r (and_l (and_l (and_l (and_l (and_l hn)))))))))) e3 e4
    match i, j, hi, hj, h with
    | 0, 0, _, _, h => rfl
    | 0, 1, _, _, h => exact absurd h n01
    | 0, 2, _, _, h => exact absurd h n02
    | 0, 3, _, _, h => exact absurd h n03
    | 0, 4, _, _, h => exact absurd h n04
    | 1, 0, _, _, h => exact absurd h.symm n01
    | 1, 1, _, _, h => rfl
    | 1, 2, _, _, h => exact absurd h n12
    | 1, 3, _, _, h => exact absurd h n13
    | 1, 4, _, _, h => exact absurd h n14
    | 2, 0, _, _, h => exact absurd h.symm n02
    | 2, 1, _, _, h => exact absurd h.symm n12
    | 2, 2, _, _, h => rfl
    | 2, 3, _, _, h => exact absurd h n23
    | 2, 4, _, _, h => exact absurd h n24
    | 3, 0, _, _, h => exact absurd h.symm n03
    | 3, 1, _, _, h => exact absurd h.symm n13
    | 3, 2, _, _, h => exact absurd h.symm n23
    | 3, 3, _, _, h => rfl
    | 3, 4, _, _, h => exact absurd h n34
    | 4, 0, _, _, h => exact absurd h.symm n04
    | 4, 1, _, _, h => exact absurd h.symm n14
    | 4, 2, _, _, h => exact absurd h.symm n24
    | 4, 3, _, _, h => exact absurd h.symm n34
    | 4, 4, _, _, h => rfl
    | i + 5, _, hi, _, _ => exact absurd hi (by omega)
    | _, j + 5, _, hj, _ => exact absurd hj (by omega)
theorem go_DigitOnese {s : State} {b : Nat} (hn : narrow_1.before #[Value.ref b] s = true) : ∀ j : Nat, j < 100 → (Cond.eq (.elem (Jvm.Term.static "java/lang/Integer" "DigitOnes" "[B") (.int (Int32.ofNat j))) (.int (nI (48 + j % 10)))).before #[Value.ref b] s = true := by
  intro j hj
  match j, hj with
  | 0, _ => exact (and_r (and_r (and_r (and_r (and_r (and_r (and_l (and_l (and_l (and_l hn))))))))))
  | 1, _ => exact (and_l (and_l (and_l (and_l (and_l (and_r (and_l (and_l (and_l hn)))))))))
  | 2, _ => exact (and_l (and_r (and_l (and_l (and_l (and_l (and_r (and_l (and_l (and_l hn))))))))))
  | 3, _ => exact (and_r (and_r (and_l (and_l (and_l (and_l (and_r (and_l (and_l (and_l hn))))))))))
  | 4, _ => exact (and_l (and_r (and_l (and_l (and_l (and_r (and_l (and_l (and_l hn)))))))))
  | 5, _ => exact (and_l (and_r (and_r (and_l (and_l (and_l (and_r (and_l (and_l (and_l hn))))))))))
  | 6, _ => exact (and_r (and_r (and_r (and_l (and_l (and_l (and_r (and_l (and_l (and_l hn))))))))))
  | 7, _ => exact (and_l (and_l (and_r (and_l (and_l (and_r (and_l (and_l (and_l hn)))))))))
  | 8, _ => exact (and_l (and_r (and_l (and_r (and_l (and_l (and_r (and_l (and_l (and_l hn))))))))))
  | 9, _ => exact (and_r (and_r (and_l (and_r (and_l (and_l (and_r (and_l (and_l (and_l hn))))))))))
  | 10, _ => exact (and_l (and_r (and_r (and_l (and_l (and_r (and_l (and_l (and_l hn)))))))))
  | 11, _ => exact (and_l (and_r (and_r (and_r (and_l (and_l (and_r (and_l (and_l (and_l hn))))))))))
  | 12, _ => exact (and_r (and_r (and_r (and_r (and_l (and_l (and_r (and_l (and_l (and_l hn))))))))))
  | 13, _ => exact (and_l (and_l (and_l (and_r (and_l (and_r (and_l (and_l (and_l hn)))))))))
  | 14, _ => exact (and_l (and_r (and_l (and_l (and_r (and_l (and_r (and_l (and_l (and_l hn))))))))))
  | 15, _ => exact (and_r (and_r (and_l (and_l (and_r (and_l (and_r (and_l (and_l (and_l hn))))))))))
  | 16, _ => exact (and_l (and_r (and_l (and_r (and_l (and_r (and_l (and_l (and_l hn)))))))))
  | 17, _ => exact (and_l (and_r (and_r (and_l (and_r (and_l (and_r (and_l (and_l (and_l hn))))))))))
  | 18, _ => exact (and_r (and_r (and_r (and_l (and_r (and_l (and_r (and_l (and_l (and_l hn))))))))))
  | 19, _ => exact (and_l (and_l (and_r (and_r (and_l (and_r (and_l (and_l (and_l hn)))))))))
  | 20, _ => exact (and_l (and_r (and_l (and_r (and_r (and_l (and_r (and_l (and_l (and_l hn))))))))))
  | 21, _ => exact (and_r (and_r (and_l (and_r (and_r (and_l (and_r (and_l (and_l (and_l hn))))))))))
  | 22, _ => exact (and_l (and_l (and_r (and_r (and_r (and_l (and_r (and_l (and_l (and_l hn))))))))))
  | 23, _ => exact (and_r (and_l (and_r (and_r (and_r (and_l (and_r (and_l (and_l (and_l hn))))))))))
  | 24, _ => exact (and_l (and_r (and_r (and_r (and_r (and_l (and_r (and_l (and_l (and_l hn))))))))))
  | 25, _ => exact (and_r (and_r (and_r (and_r (and_r (and_l (and_r (and_l (and_l (and_l hn))))))))))
  | 26, _ => exact (and_l (and_l (and_l (and_l (and_r (and_r (and_l (and_l (and_l hn)))))))))
  | 27, _ => exact (and_l (and_r (and_l (and_l (and_l (and_r (and_r (and_l (and_l (and_l hn))))))))))
  | 28, _ => exact (and_r (and_r (and_l (and_l (and_l (and_r (and_r (and_l (and_l (and_l hn))))))))))
  | 29, _ => exact (and_l (and_r (and_l (and_l (and_r (and_r (and_l (and_l (and_l hn)))))))))
  | 30, _ => exact (and_l (and_r (and_r (and_l (and_l (and_r (and_r (and_l (and_l (and_l hn))))))))))
  | 31, _ => exact (and_r (and_r (and_r (and_l (and_l (and_r (and_r (and_l (and_l (and_l hn))))))))))
  | 32, _ => exact (and_l (and_l (and_r (and_l (and_r (and_r (and_l (and_l (and_l hn)))))))))
  | 33, _ => exact (and_l (and_r (and_l (and_r (and_l (and_r (and_r (and_l (and_l (and_l hn))))))))))
  | 34, _ => exact (and_r (and_r (and_l (and_r (and_l (and_r (and_r (and_l (and_l (and_l hn))))))))))
  | 35, _ => exact (and_l (and_r (and_r (and_l (and_r (and_r (and_l (and_l (and_l hn)))))))))
  | 36, _ => exact (and_l (and_r (and_r (and_r (and_l (and_r (and_r (and_l (and_l (and_l hn))))))))))
  | 37, _ => exact (and_r (and_r (and_r (and_r (and_l (and_r (and_r (and_l (and_l (and_l hn))))))))))
  | 38, _ => exact (and_l (and_l (and_l (and_r (and_r (and_r (and_l (and_l (and_l hn)))))))))
  | 39, _ => exact (and_l (and_r (and_l (and_l (and_r (and_r (and_r (and_l (and_l (and_l hn))))))))))
  | 40, _ => exact (and_r (and_r (and_l (and_l (and_r (and_r (and_r (and_l (and_l (and_l hn))))))))))
  | 41, _ => exact (and_l (and_r (and_l (and_r (and_r (and_r (and_l (and_l (and_l hn)))))))))
  | 42, _ => exact (and_l (and_r (and_r (and_l (and_r (and_r (and_r (and_l (and_l (and_l hn))))))))))
  | 43, _ => exact (and_r (and_r (and_r (and_l (and_r (and_r (and_r (and_l (and_l (and_l hn))))))))))
  | 44, _ => exact (and_l (and_l (and_r (and_r (and_r (and_r (and_l (and_l (and_l hn)))))))))
  | 45, _ => exact (and_l (and_r (and_l (and_r (and_r (and_r (and_r (and_l (and_l (and_l hn))))))))))
  | 46, _ => exact (and_r (and_r (and_l (and_r (and_r (and_r (and_r (and_l (and_l (and_l hn))))))))))
  | 47, _ => exact (and_l (and_l (and_r (and_r (and_r (and_r (and_r (and_l (and_l (and_l hn))))))))))
  | 48, _ => exact (and_r (and_l (and_r (and_r (and_r (and_r (and_r (and_l (and_l (and_l hn))))))))))
  | 49, _ => exact (and_l (and_r (and_r (and_r (and_r (and_r (and_r (and_l (and_l (and_l hn))))))))))
  | 50, _ => exact (and_r (and_r (and_r (and_r (and_r (and_r (and_r (and_l (and_l (and_l hn))))))))))
  | 51, _ => exact (and_l (and_l (and_l (and_l (and_l (and_l (and_r (and_l (and_l hn)))))))))
  | 52, _ => exact (and_l (and_r (and_l (and_l (and_l (and_l (and_l (and_r (and_l (and_l hn))))))))))
  | 53, _ => exact (and_r (and_r (and_l (and_l (and_l (and_l (and_l (and_r (and_l (and_l hn))))))))))
  | 54, _ => exact (and_l (and_r (and_l (and_l (and_l (and_l (and_r (and_l (and_l hn)))))))))
  | 55, _ => exact (and_l (and_r (and_r (and_l (and_l (and_l (and_l (and_r (and_l (and_l hn))))))))))
  | 56, _ => exact (and_r (and_r (and_r (and_l (and_l (and_l (and_l (and_r (and_l (and_l hn))))))))))
  | 57, _ => exact (and_l (and_l (and_r (and_l (and_l (and_l (and_r (and_l (and_l hn)))))))))
  | 58, _ => exact (and_l (and_r (and_l (and_r (and_l (and_l (and_l (and_r (and_l (and_l hn))))))))))
  | 59, _ => exact (and_r (and_r (and_l (and_r (and_l (and_l (and_l (and_r (and_l (and_l hn))))))))))
  | 60, _ => exact (and_l (and_r (and_r (and_l (and_l (and_l (and_r (and_l (and_l hn)))))))))
  | 61, _ => exact (and_l (and_r (and_r (and_r (and_l (and_l (and_l (and_r (and_l (and_l hn))))))))))
  | 62, _ => exact (and_r (and_r (and_r (and_r (and_l (and_l (and_l (and_r (and_l (and_l hn))))))))))
  | 63, _ => exact (and_l (and_l (and_l (and_r (and_l (and_l (and_r (and_l (and_l hn)))))))))
  | 64, _ => exact (and_l (and_r (and_l (and_l (and_r (and_l (and_l (and_r (and_l (and_l hn))))))))))
  | 65, _ => exact (and_r (and_r (and_l (and_l (and_r (and_l (and_l (and_r (and_l (and_l hn))))))))))
  | 66, _ => exact (and_l (and_r (and_l (and_r (and_l (and_l (and_r (and_l (and_l hn)))))))))
  | 67, _ => exact (and_l (and_r (and_r (and_l (and_r (and_l (and_l (and_r (and_l (and_l hn))))))))))
  | 68, _ => exact (and_r (and_r (and_r (and_l (and_r (and_l (and_l (and_r (and_l (and_l hn))))))))))
  | 69, _ => exact (and_l (and_l (and_r (and_r (and_l (and_l (and_r (and_l (and_l hn)))))))))
  | 70, _ => exact (and_l (and_r (and_l (and_r (and_r (and_l (and_l (and_r (and_l (and_l hn))))))))))
  | 71, _ => exact (and_r (and_r (and_l (and_r (and_r (and_l (and_l (and_r (and_l (and_l hn))))))))))
  | 72, _ => exact (and_l (and_l (and_r (and_r (and_r (and_l (and_l (and_r (and_l (and_l hn))))))))))
  | 73, _ => exact (and_r (and_l (and_r (and_r (and_r (and_l (and_l (and_r (and_l (and_l hn))))))))))
  | 74, _ => exact (and_l (and_r (and_r (and_r (and_r (and_l (and_l (and_r (and_l (and_l hn))))))))))
  | 75, _ => exact (and_r (and_r (and_r (and_r (and_r (and_l (and_l (and_r (and_l (and_l hn))))))))))
  | 76, _ => exact (and_l (and_l (and_l (and_l (and_r (and_l (and_r (and_l (and_l hn)))))))))
  | 77, _ => exact (and_l (and_r (and_l (and_l (and_l (and_r (and_l (and_r (and_l (and_l hn))))))))))
  | 78, _ => exact (and_r (and_r (and_l (and_l (and_l (and_r (and_l (and_r (and_l (and_l hn))))))))))
  | 79, _ => exact (and_l (and_r (and_l (and_l (and_r (and_l (and_r (and_l (and_l hn)))))))))
  | 80, _ => exact (and_l (and_r (and_r (and_l (and_l (and_r (and_l (and_r (and_l (and_l hn))))))))))
  | 81, _ => exact (and_r (and_r (and_r (and_l (and_l (and_r (and_l (and_r (and_l (and_l hn))))))))))
  | 82, _ => exact (and_l (and_l (and_r (and_l (and_r (and_l (and_r (and_l (and_l hn)))))))))
  | 83, _ => exact (and_l (and_r (and_l (and_r (and_l (and_r (and_l (and_r (and_l (and_l hn))))))))))
  | 84, _ => exact (and_r (and_r (and_l (and_r (and_l (and_r (and_l (and_r (and_l (and_l hn))))))))))
  | 85, _ => exact (and_l (and_r (and_r (and_l (and_r (and_l (and_r (and_l (and_l hn)))))))))
  | 86, _ => exact (and_l (and_r (and_r (and_r (and_l (and_r (and_l (and_r (and_l (and_l hn))))))))))
  | 87, _ => exact (and_r (and_r (and_r (and_r (and_l (and_r (and_l (and_r (and_l (and_l hn))))))))))
  | 88, _ => exact (and_l (and_l (and_l (and_r (and_r (and_l (and_r (and_l (and_l hn)))))))))
  | 89, _ => exact (and_l (and_r (and_l (and_l (and_r (and_r (and_l (and_r (and_l (and_l hn))))))))))
  | 90, _ => exact (and_r (and_r (and_l (and_l (and_r (and_r (and_l (and_r (and_l (and_l hn))))))))))
  | 91, _ => exact (and_l (and_r (and_l (and_r (and_r (and_l (and_r (and_l (and_l hn)))))))))
  | 92, _ => exact (and_l (and_r (and_r (and_l (and_r (and_r (and_l (and_r (and_l (and_l hn))))))))))
  | 93, _ => exact (and_r (and_r (and_r (and_l (and_r (and_r (and_l (and_r (and_l (and_l hn))))))))))
  | 94, _ => exact (and_l (and_l (and_r (and_r (and_r (and_l (and_r (and_l (and_l hn)))))))))
  | 95, _ => exact (and_l (and_r (and_l (and_r (and_r (and_r (and_l (and_r (and_l (and_l hn))))))))))
  | 96, _ => exact (and_r (and_r (and_l (and_r (and_r (and_r (and_l (and_r (and_l (and_l hn))))))))))
  | 97, _ => exact (and_l (and_l (and_r (and_r (and_r (and_r (and_l (and_r (and_l (and_l hn))))))))))
  | 98, _ => exact (and_r (and_l (and_r (and_r (and_r (and_r (and_l (and_r (and_l (and_l hn))))))))))
  | 99, _ => exact (and_l (and_r (and_r (and_r (and_r (and_r (and_l (and_r (and_l (and_l hn))))))))))
  | j + 100, hj => exact absurd hj (by omega)
theorem go_DigitOnes {s : State} {b : Nat} (hts : ∀ w ∈ lw_tbl, w.before #[Value.ref b] s = true) (hn : narrow_1.before #[Value.ref b] s = true) : ∃ t : Nat, va_Z "java/lang/Integer" "DigitOnes" "[B" (.ref t) (fun q => s.heap.size ≤ q) s s.heap ∧ va_T .byte t 100 (fun j => .int (nI (48 + j % 10))) (fun q => s.heap.size ≤ q) s s.heap := by
  obtain ⟨t, h1, h2⟩ := va_Tof (f := fun j => .int (nI (48 + j % 10))) (N := 100) (by decide) (and_r (and_l (and_r (and_r (and_r (and_r (and_l (and_l (and_l (and_l hn)))))))))) (va_eqt (and_l (and_r (and_r (and_r (and_r (and_r (and_l (and_l (and_l (and_l hn))))))))))) (fun j hj => va_eqt (go_DigitOnese hn j hj)) (fun a h => Nat.not_le.mpr h)
  exact ⟨t, va_Zref (hts _ q1802) (hts _ (lw_sub q135)) h1 (fun a h => Nat.not_le.mpr h), h2⟩
theorem go_DigitTense {s : State} {b : Nat} (hn : narrow_1.before #[Value.ref b] s = true) : ∀ j : Nat, j < 100 → (Cond.eq (.elem (Jvm.Term.static "java/lang/Integer" "DigitTens" "[B") (.int (Int32.ofNat j))) (.int (nI (48 + j / 10)))).before #[Value.ref b] s = true := by
  intro j hj
  match j, hj with
  | 0, _ => exact (and_r (and_r (and_l (and_l (and_l (and_l (and_r (and_r (and_l (and_l hn))))))))))
  | 1, _ => exact (and_l (and_r (and_l (and_l (and_l (and_r (and_r (and_l (and_l hn)))))))))
  | 2, _ => exact (and_l (and_r (and_r (and_l (and_l (and_l (and_r (and_r (and_l (and_l hn))))))))))
  | 3, _ => exact (and_r (and_r (and_r (and_l (and_l (and_l (and_r (and_r (and_l (and_l hn))))))))))
  | 4, _ => exact (and_l (and_l (and_r (and_l (and_l (and_r (and_r (and_l (and_l hn)))))))))
  | 5, _ => exact (and_l (and_r (and_l (and_r (and_l (and_l (and_r (and_r (and_l (and_l hn))))))))))
  | 6, _ => exact (and_r (and_r (and_l (and_r (and_l (and_l (and_r (and_r (and_l (and_l hn))))))))))
  | 7, _ => exact (and_l (and_r (and_r (and_l (and_l (and_r (and_r (and_l (and_l hn)))))))))
  | 8, _ => exact (and_l (and_r (and_r (and_r (and_l (and_l (and_r (and_r (and_l (and_l hn))))))))))
  | 9, _ => exact (and_r (and_r (and_r (and_r (and_l (and_l (and_r (and_r (and_l (and_l hn))))))))))
  | 10, _ => exact (and_l (and_l (and_l (and_r (and_l (and_r (and_r (and_l (and_l hn)))))))))
  | 11, _ => exact (and_l (and_r (and_l (and_l (and_r (and_l (and_r (and_r (and_l (and_l hn))))))))))
  | 12, _ => exact (and_r (and_r (and_l (and_l (and_r (and_l (and_r (and_r (and_l (and_l hn))))))))))
  | 13, _ => exact (and_l (and_r (and_l (and_r (and_l (and_r (and_r (and_l (and_l hn)))))))))
  | 14, _ => exact (and_l (and_r (and_r (and_l (and_r (and_l (and_r (and_r (and_l (and_l hn))))))))))
  | 15, _ => exact (and_r (and_r (and_r (and_l (and_r (and_l (and_r (and_r (and_l (and_l hn))))))))))
  | 16, _ => exact (and_l (and_l (and_r (and_r (and_l (and_r (and_r (and_l (and_l hn)))))))))
  | 17, _ => exact (and_l (and_r (and_l (and_r (and_r (and_l (and_r (and_r (and_l (and_l hn))))))))))
  | 18, _ => exact (and_r (and_r (and_l (and_r (and_r (and_l (and_r (and_r (and_l (and_l hn))))))))))
  | 19, _ => exact (and_l (and_l (and_r (and_r (and_r (and_l (and_r (and_r (and_l (and_l hn))))))))))
  | 20, _ => exact (and_r (and_l (and_r (and_r (and_r (and_l (and_r (and_r (and_l (and_l hn))))))))))
  | 21, _ => exact (and_l (and_r (and_r (and_r (and_r (and_l (and_r (and_r (and_l (and_l hn))))))))))
  | 22, _ => exact (and_r (and_r (and_r (and_r (and_r (and_l (and_r (and_r (and_l (and_l hn))))))))))
  | 23, _ => exact (and_l (and_l (and_l (and_l (and_r (and_r (and_r (and_l (and_l hn)))))))))
  | 24, _ => exact (and_l (and_r (and_l (and_l (and_l (and_r (and_r (and_r (and_l (and_l hn))))))))))
  | 25, _ => exact (and_r (and_r (and_l (and_l (and_l (and_r (and_r (and_r (and_l (and_l hn))))))))))
  | 26, _ => exact (and_l (and_r (and_l (and_l (and_r (and_r (and_r (and_l (and_l hn)))))))))
  | 27, _ => exact (and_l (and_r (and_r (and_l (and_l (and_r (and_r (and_r (and_l (and_l hn))))))))))
  | 28, _ => exact (and_r (and_r (and_r (and_l (and_l (and_r (and_r (and_r (and_l (and_l hn))))))))))
  | 29, _ => exact (and_l (and_l (and_r (and_l (and_r (and_r (and_r (and_l (and_l hn)))))))))
  | 30, _ => exact (and_l (and_r (and_l (and_r (and_l (and_r (and_r (and_r (and_l (and_l hn))))))))))
  | 31, _ => exact (and_r (and_r (and_l (and_r (and_l (and_r (and_r (and_r (and_l (and_l hn))))))))))
  | 32, _ => exact (and_l (and_r (and_r (and_l (and_r (and_r (and_r (and_l (and_l hn)))))))))
  | 33, _ => exact (and_l (and_r (and_r (and_r (and_l (and_r (and_r (and_r (and_l (and_l hn))))))))))
  | 34, _ => exact (and_r (and_r (and_r (and_r (and_l (and_r (and_r (and_r (and_l (and_l hn))))))))))
  | 35, _ => exact (and_l (and_l (and_l (and_r (and_r (and_r (and_r (and_l (and_l hn)))))))))
  | 36, _ => exact (and_l (and_r (and_l (and_l (and_r (and_r (and_r (and_r (and_l (and_l hn))))))))))
  | 37, _ => exact (and_r (and_r (and_l (and_l (and_r (and_r (and_r (and_r (and_l (and_l hn))))))))))
  | 38, _ => exact (and_l (and_r (and_l (and_r (and_r (and_r (and_r (and_l (and_l hn)))))))))
  | 39, _ => exact (and_l (and_r (and_r (and_l (and_r (and_r (and_r (and_r (and_l (and_l hn))))))))))
  | 40, _ => exact (and_r (and_r (and_r (and_l (and_r (and_r (and_r (and_r (and_l (and_l hn))))))))))
  | 41, _ => exact (and_l (and_l (and_r (and_r (and_r (and_r (and_r (and_l (and_l hn)))))))))
  | 42, _ => exact (and_l (and_r (and_l (and_r (and_r (and_r (and_r (and_r (and_l (and_l hn))))))))))
  | 43, _ => exact (and_r (and_r (and_l (and_r (and_r (and_r (and_r (and_r (and_l (and_l hn))))))))))
  | 44, _ => exact (and_l (and_l (and_r (and_r (and_r (and_r (and_r (and_r (and_l (and_l hn))))))))))
  | 45, _ => exact (and_r (and_l (and_r (and_r (and_r (and_r (and_r (and_r (and_l (and_l hn))))))))))
  | 46, _ => exact (and_l (and_r (and_r (and_r (and_r (and_r (and_r (and_r (and_l (and_l hn))))))))))
  | 47, _ => exact (and_r (and_r (and_r (and_r (and_r (and_r (and_r (and_r (and_l (and_l hn))))))))))
  | 48, _ => exact (and_l (and_l (and_l (and_l (and_l (and_l (and_l (and_r (and_l hn)))))))))
  | 49, _ => exact (and_l (and_r (and_l (and_l (and_l (and_l (and_l (and_l (and_r (and_l hn))))))))))
  | 50, _ => exact (and_r (and_r (and_l (and_l (and_l (and_l (and_l (and_l (and_r (and_l hn))))))))))
  | 51, _ => exact (and_l (and_r (and_l (and_l (and_l (and_l (and_l (and_r (and_l hn)))))))))
  | 52, _ => exact (and_l (and_r (and_r (and_l (and_l (and_l (and_l (and_l (and_r (and_l hn))))))))))
  | 53, _ => exact (and_r (and_r (and_r (and_l (and_l (and_l (and_l (and_l (and_r (and_l hn))))))))))
  | 54, _ => exact (and_l (and_l (and_r (and_l (and_l (and_l (and_l (and_r (and_l hn)))))))))
  | 55, _ => exact (and_l (and_r (and_l (and_r (and_l (and_l (and_l (and_l (and_r (and_l hn))))))))))
  | 56, _ => exact (and_r (and_r (and_l (and_r (and_l (and_l (and_l (and_l (and_r (and_l hn))))))))))
  | 57, _ => exact (and_l (and_r (and_r (and_l (and_l (and_l (and_l (and_r (and_l hn)))))))))
  | 58, _ => exact (and_l (and_r (and_r (and_r (and_l (and_l (and_l (and_l (and_r (and_l hn))))))))))
  | 59, _ => exact (and_r (and_r (and_r (and_r (and_l (and_l (and_l (and_l (and_r (and_l hn))))))))))
  | 60, _ => exact (and_l (and_l (and_l (and_r (and_l (and_l (and_l (and_r (and_l hn)))))))))
  | 61, _ => exact (and_l (and_r (and_l (and_l (and_r (and_l (and_l (and_l (and_r (and_l hn))))))))))
  | 62, _ => exact (and_r (and_r (and_l (and_l (and_r (and_l (and_l (and_l (and_r (and_l hn))))))))))
  | 63, _ => exact (and_l (and_r (and_l (and_r (and_l (and_l (and_l (and_r (and_l hn)))))))))
  | 64, _ => exact (and_l (and_r (and_r (and_l (and_r (and_l (and_l (and_l (and_r (and_l hn))))))))))
  | 65, _ => exact (and_r (and_r (and_r (and_l (and_r (and_l (and_l (and_l (and_r (and_l hn))))))))))
  | 66, _ => exact (and_l (and_l (and_r (and_r (and_l (and_l (and_l (and_r (and_l hn)))))))))
  | 67, _ => exact (and_l (and_r (and_l (and_r (and_r (and_l (and_l (and_l (and_r (and_l hn))))))))))
  | 68, _ => exact (and_r (and_r (and_l (and_r (and_r (and_l (and_l (and_l (and_r (and_l hn))))))))))
  | 69, _ => exact (and_l (and_l (and_r (and_r (and_r (and_l (and_l (and_l (and_r (and_l hn))))))))))
  | 70, _ => exact (and_r (and_l (and_r (and_r (and_r (and_l (and_l (and_l (and_r (and_l hn))))))))))
  | 71, _ => exact (and_l (and_r (and_r (and_r (and_r (and_l (and_l (and_l (and_r (and_l hn))))))))))
  | 72, _ => exact (and_r (and_r (and_r (and_r (and_r (and_l (and_l (and_l (and_r (and_l hn))))))))))
  | 73, _ => exact (and_l (and_l (and_l (and_l (and_r (and_l (and_l (and_r (and_l hn)))))))))
  | 74, _ => exact (and_l (and_r (and_l (and_l (and_l (and_r (and_l (and_l (and_r (and_l hn))))))))))
  | 75, _ => exact (and_r (and_r (and_l (and_l (and_l (and_r (and_l (and_l (and_r (and_l hn))))))))))
  | 76, _ => exact (and_l (and_r (and_l (and_l (and_r (and_l (and_l (and_r (and_l hn)))))))))
  | 77, _ => exact (and_l (and_r (and_r (and_l (and_l (and_r (and_l (and_l (and_r (and_l hn))))))))))
  | 78, _ => exact (and_r (and_r (and_r (and_l (and_l (and_r (and_l (and_l (and_r (and_l hn))))))))))
  | 79, _ => exact (and_l (and_l (and_r (and_l (and_r (and_l (and_l (and_r (and_l hn)))))))))
  | 80, _ => exact (and_l (and_r (and_l (and_r (and_l (and_r (and_l (and_l (and_r (and_l hn))))))))))
  | 81, _ => exact (and_r (and_r (and_l (and_r (and_l (and_r (and_l (and_l (and_r (and_l hn))))))))))
  | 82, _ => exact (and_l (and_r (and_r (and_l (and_r (and_l (and_l (and_r (and_l hn)))))))))
  | 83, _ => exact (and_l (and_r (and_r (and_r (and_l (and_r (and_l (and_l (and_r (and_l hn))))))))))
  | 84, _ => exact (and_r (and_r (and_r (and_r (and_l (and_r (and_l (and_l (and_r (and_l hn))))))))))
  | 85, _ => exact (and_l (and_l (and_l (and_r (and_r (and_l (and_l (and_r (and_l hn)))))))))
  | 86, _ => exact (and_l (and_r (and_l (and_l (and_r (and_r (and_l (and_l (and_r (and_l hn))))))))))
  | 87, _ => exact (and_r (and_r (and_l (and_l (and_r (and_r (and_l (and_l (and_r (and_l hn))))))))))
  | 88, _ => exact (and_l (and_r (and_l (and_r (and_r (and_l (and_l (and_r (and_l hn)))))))))
  | 89, _ => exact (and_l (and_r (and_r (and_l (and_r (and_r (and_l (and_l (and_r (and_l hn))))))))))
  | 90, _ => exact (and_r (and_r (and_r (and_l (and_r (and_r (and_l (and_l (and_r (and_l hn))))))))))
  | 91, _ => exact (and_l (and_l (and_r (and_r (and_r (and_l (and_l (and_r (and_l hn)))))))))
  | 92, _ => exact (and_l (and_r (and_l (and_r (and_r (and_r (and_l (and_l (and_r (and_l hn))))))))))
  | 93, _ => exact (and_r (and_r (and_l (and_r (and_r (and_r (and_l (and_l (and_r (and_l hn))))))))))
  | 94, _ => exact (and_l (and_l (and_r (and_r (and_r (and_r (and_l (and_l (and_r (and_l hn))))))))))
  | 95, _ => exact (and_r (and_l (and_r (and_r (and_r (and_r (and_l (and_l (and_r (and_l hn))))))))))
  | 96, _ => exact (and_l (and_r (and_r (and_r (and_r (and_r (and_l (and_l (and_r (and_l hn))))))))))
  | 97, _ => exact (and_r (and_r (and_r (and_r (and_r (and_r (and_l (and_l (and_r (and_l hn))))))))))
  | 98, _ => exact (and_l (and_l (and_l (and_l (and_l (and_r (and_l (and_r (and_l hn)))))))))
  | 99, _ => exact (and_l (and_r (and_l (and_l (and_l (and_l (and_r (and_l (and_r (and_l hn))))))))))
  | j + 100, hj => exact absurd hj (by omega)
theorem go_DigitTens {s : State} {b : Nat} (hts : ∀ w ∈ lw_tbl, w.before #[Value.ref b] s = true) (hn : narrow_1.before #[Value.ref b] s = true) : ∃ t : Nat, va_Z "java/lang/Integer" "DigitTens" "[B" (.ref t) (fun q => s.heap.size ≤ q) s s.heap ∧ va_T .byte t 100 (fun j => .int (nI (48 + j / 10))) (fun q => s.heap.size ≤ q) s s.heap := by
  obtain ⟨t, h1, h2⟩ := va_Tof (f := fun j => .int (nI (48 + j / 10))) (N := 100) (by decide) (and_l (and_l (and_l (and_l (and_l (and_r (and_r (and_l (and_l hn))))))))) (va_eqt (and_l (and_r (and_l (and_l (and_l (and_l (and_r (and_r (and_l (and_l hn))))))))))) (fun j hj => va_eqt (go_DigitTense hn j hj)) (fun a h => Nat.not_le.mpr h)
  exact ⟨t, va_Zref (hts _ q1804) (hts _ (lw_sub q135)) h1 (fun a h => Nat.not_le.mpr h), h2⟩
theorem go_list {s : State} {b : Nat} (hts : ∀ w ∈ lw_tbl, w.before #[Value.ref b] s = true) (hn : narrow_1.before #[Value.ref b] s = true) : ∃ t : Nat, va_Z "java/util/ArrayList" "DEFAULTCAPACITY_EMPTY_ELEMENTDATA" "[Ljava/lang/Object;" (.ref t) (fun q => s.heap.size ≤ q) s s.heap ∧ va_T (.object "java/lang/Object") t 0 (fun _ => .null) (fun q => s.heap.size ≤ q) s s.heap := by
  obtain ⟨t, h1, h2⟩ := va_Tof (f := fun _ => .null) (N := 0) (by decide) (and_l (and_l (and_l (and_l (and_r (and_l (and_l (and_l (and_l hn))))))))) (va_eqt (and_r (and_r (and_l (and_l (and_l (and_r (and_l (and_l (and_l (and_l hn))))))))))) (fun j hj => absurd hj (Nat.not_lt_zero j)) (fun a h => Nat.not_le.mpr h)
  exact ⟨t, va_Zref (hts _ q437) (hts _ (lw_sub q116)) h1 (fun a h => Nat.not_le.mpr h), h2⟩
theorem go_ints {s : State} {b : Nat} (hts : ∀ w ∈ lw_tbl, w.before #[Value.ref b] s = true) (hn : narrow_1.before #[Value.ref b] s = true) : ∃ (ad : Nat → Nat) (t : Nat), vb_C ad (fun q => s.heap.size ≤ q) s s.heap ∧ va_Z "java/lang/Integer$IntegerCache" "high" "I" (.int 127) (fun q => s.heap.size ≤ q) s s.heap ∧ va_Z "java/lang/Integer$IntegerCache" "cache" "[Ljava/lang/Integer;" (.ref t) (fun q => s.heap.size ≤ q) s s.heap ∧ va_T (.object "java/lang/Integer") t 256 (fun j => .ref (ad j)) (fun q => s.heap.size ≤ q) s s.heap := by
  have hA : ∀ a : Nat, a < s.heap.size → ¬ (s.heap.size ≤ a) := fun a h => Nat.not_le.mpr h
  have hlen := va_eqt (and_r (and_r (and_r (and_r (and_l (and_r (and_l (and_l (and_l (and_l hn))))))))))
  obtain ⟨ad, h1, h2⟩ := vb_Cof (A := fun q => s.heap.size ≤ q) (st := (Jvm.Term.static "java/lang/Integer$IntegerCache" "cache" "[Ljava/lang/Integer;")) rfl hlen (and_l (and_l (and_l (and_r (and_r (and_l (and_l (and_l (and_l hn))))))))) hA
  obtain ⟨t, h3, h4⟩ := va_Tof (A := fun q => s.heap.size ≤ q) (f := fun j => .ref (ad j)) (N := 256) (by decide) (and_l (and_r (and_r (and_r (and_l (and_r (and_l (and_l (and_l (and_l hn)))))))))) hlen h2 hA
  exact ⟨ad, t, h1, va_Zof (hts _ q984) (hts _ (lw_sub q136)) (va_eqt (and_r (and_r (and_l (and_r (and_l (and_r (and_l (and_l (and_l (and_l hn))))))))))) hA, va_Zref (hts _ q986) (hts _ (lw_sub q136)) h3 hA, h4⟩
theorem go_all {s : State} {b : Nat} (hts : ∀ w ∈ lw_tbl, w.before #[Value.ref b] s = true) (hgv : (Jvm.Cond.and given_1 narrow_1).before #[Value.ref b] s = true) : ∃ G : gG, g0 G = s ∧ gb G = b ∧ gOk G := by
  have hn := and_r hgv
  have hA : ∀ a : Nat, a < s.heap.size → ¬ (s.heap.size ≤ a) := fun a h => Nat.not_le.mpr h
  obtain ⟨dC, dI, k1⟩ := go_cls hts
  obtain ⟨cA, k2⟩ := go_arr hts
  obtain ⟨adK, adV, k3, k4⟩ := go_str hn
  obtain ⟨adE, k5, k6⟩ := go_kind hts hn
  obtain ⟨adI, tI, k7, k8, k9, k10⟩ := go_ints hts hn
  obtain ⟨tL, k11, k12⟩ := go_list hts hn
  obtain ⟨tO, k13, k14⟩ := go_DigitOnes hts hn
  obtain ⟨tT, k15, k16⟩ := go_DigitTens hts hn
  obtain ⟨tM, k17⟩ := va_Mi.of (and_l (and_r (and_l (and_r (and_r (and_r (and_r (and_r (and_l (and_l (and_r hn)))))))))))
  refine ⟨(s, b, dC, dI, cA, fun i => match i with | 0 => adK | 1 => adV | 2 => adE | 3 => adI | _ => fun j => match j with | 0 => tI | 1 => tL | 2 => tO | 3 => tT | _ => tM), rfl, rfl, hts, hgv, ⟨k1, k2⟩, k3, go_ref hts hn k4, k7, ⟨k8, k9, k10⟩, ⟨k5, k6⟩, ⟨k11, k12⟩, ⟨k13, k14⟩, ⟨k15, k16⟩, k17, ?_, ?_⟩
  · exact (vx_Zqof (hts _ q300) (hts _ (lw_sub q106)) (and_r (and_l (and_r (and_r (and_r (and_l (and_l (and_l (and_l (and_l hn)))))))))) hA)
  · exact (vx_Zqof (hts _ q302) (hts _ (lw_sub q106)) (and_l (and_r (and_r (and_r (and_r (and_l (and_l (and_l (and_l (and_l hn)))))))))) hA)
