set_option maxRecDepth 100000
set_option maxHeartbeats 4000000
theorem le_d {a b u d : Nat} (h : Nat.ble a b = true) : a ≤ b + u * d := Nat.le_trans (Nat.le_of_ble_eq_true h) (Nat.le_add_right _ _)
/-- Sum.of at depth d: by the class of the receiver, its contract -/
def sumMet (l : Launch) (G : gG) (d : Nat) (post : Int64 → NM → Prop) (N : NM) (a x : Nat) : Prop := ∀ sz : Nat, ((∃ fs, N a = some (eO 8 fs)) ∧ Met l yX11_of (ws_ yX11_of cX11_of 2 (some .long)) ⟨0, 0, 0, 0⟩ (va_Pc [.ref a, .ref x] (cPre G [] N sz)) (gQ vL post (fun u H => cBw G (cA [] N sz) (jW u).1 (jW u).2 H) (cA [] N sz)) 0 0 (cA [] N sz)) ∨ ((∃ fs, N a = some (eO 9 fs)) ∧ Met l yX12_of (ws_ yX12_of cX12_of 2 (some .long)) ⟨0, 0, 0, 0⟩ (va_Pc [.ref a, .ref x] (cPre G [] N sz)) (gQ vL post (fun u H => cBw G (cA [] N sz) (jW u).1 (jW u).2 H) (cA [] N sz)) 0 0 (cA [] N sz)) ∨ ((∃ fs, N a = some (eO 10 fs)) ∧ Met l yX14_of (ws_ yX14_of cX14_of 8 (some .long)) ⟨3 + 1 * d, 0, 0, 60 + 29 * d⟩ (va_Pc [.ref a, .ref x] (cPre G [] N sz)) (gQ vL post (fun u H => cBw G (cA [] N sz) (jW u).1 (jW u).2 H) (cA [] N sz)) 0 0 (cA [] N sz)) ∨ ((∃ fs, N a = some (eO 11 fs)) ∧ Met l yX13_of (ws_ yX13_of cX13_of 7 (some .long)) ⟨3 + 1 * d, 0, 0, 60 + 29 * d⟩ (va_Pc [.ref a, .ref x] (cPre G [] N sz)) (gQ vL post (fun u H => cBw G (cA [] N sz) (jW u).1 (jW u).2 H) (cA [] N sz)) 0 0 (cA [] N sz))
section SUMC
variable {p : Program} {l : Launch} {e : Env} {R : Room} {s : State} {m : MethodId} {args : Array Value} {below : List Frame} {meth : Method} {c : Code} {H : Heap} {locs : List Loc} {cells slots : Nat} {Q : State → Prop} {cc : ByteArray} {pc : Nat} {ls : Array Slot} {rest : List Value}
variable {G : gG} {A : Nat → Prop} {own : String} {nL : Nat} {L : va_W} {N : NM}

theorem c_sumOf {post : Int64 → NM → Prop} {a x d : Nat} (X : cX G A own p s m args c cc nL) (hw : cH G A s L N H locs) (h : sumMet l G d post N a x) {index : Nat} (hq : Cond.methodLink own index ⟨"ToldPowers$Sum", "of", "([I)J"⟩ ∈ lw_all) (hR : 3 + 1 * d + 1 ≤ R.frames ∧ 29 + (60 + 29 * d) ≤ R.locals) (hsz : ls.size = nL) (hr : (rest.map fun v => v.category).sum ≤ 8) (hc : cells ≤ R.cells ∧ slots ≤ R.slots) (d9 : decode cc pc = .ok (.invokevirtual index, 3))
    (kk : ∀ (r : Int64) (N1 : NM) (H1 : Heap) (locs1 : List Loc), post r N1 → cH G A s L N1 H1 locs1 → W p l e R s m args below meth c H1 locs1 cells slots Q (F0 m (pc + 3) ls (.long r :: rest))) : W p l e R s m args below meth c H locs cells slots Q (F0 m pc ls (.ref x :: .ref a :: rest)) := by
  rcases h H.size with ⟨⟨fs, hN⟩, hM⟩ | ⟨⟨fs, hN⟩, hM⟩ | ⟨⟨fs, hN⟩, hM⟩ | ⟨⟨fs, hN⟩, hM⟩
  · refine c_callJ (val := vL) (mc := 0) (ms := 0) X hw (va_runU (C := "ToldPowers$1") (As := [.ref x]) (rest := rest) X.1 hM (cu_mk (x := ⟨"ToldPowers$Sum", "of", "([I)J"⟩) (owner := "ToldPowers$Sum") X.1.2.2.2.2 (lw_meth q1908) rfl rfl rfl ⟨show 0 + 1 ≤ R.frames by omega, show 8 + (2 + 11) + 0 ≤ R.locals by omega⟩ (X.1.2.2.2.2 _ q144) ⟨by decide, by decide⟩ (by decide +kernel : (parseMethodDescriptor "([I)J").map (fun d => d.parameters.length) = some 1) (X.1.2.2.2.2 _ hq) (X.1.2.2.2.2 _ q1905) (va_Decl.abs (va_Nw.of rfl (X.2.2.2.1.decl (args := #[]) X.2.2.1 q1904))) (X.1.2.2.2.2 _ q1906) (X.1.2.2.2.2 _ q1907)) ⟨cPre_blind, c_recv X hw hN rfl, fun U hU hW => ⟨rfl, X.preJ hw hU hW⟩⟩ rfl rfl hsz rfl (lv_room hr) d9 hc) (fun r N1 H1 locs1 h hw1 => ?_)
    exact kk r N1 H1 locs1 h hw1
  · refine c_callJ (val := vL) (mc := 0) (ms := 0) X hw (va_runU (C := "ToldPowers$2") (As := [.ref x]) (rest := rest) X.1 hM (cu_mk (x := ⟨"ToldPowers$Sum", "of", "([I)J"⟩) (owner := "ToldPowers$Sum") X.1.2.2.2.2 (lw_meth q1911) rfl rfl rfl ⟨show 0 + 1 ≤ R.frames by omega, show 8 + (2 + 11) + 0 ≤ R.locals by omega⟩ (X.1.2.2.2.2 _ q145) ⟨by decide, by decide⟩ (by decide +kernel : (parseMethodDescriptor "([I)J").map (fun d => d.parameters.length) = some 1) (X.1.2.2.2.2 _ hq) (X.1.2.2.2.2 _ q1905) (va_Decl.abs (va_Nw.of rfl (X.2.2.2.1.decl (args := #[]) X.2.2.1 q1904))) (X.1.2.2.2.2 _ q1909) (X.1.2.2.2.2 _ q1910)) ⟨cPre_blind, c_recv X hw hN rfl, fun U hU hW => ⟨rfl, X.preJ hw hU hW⟩⟩ rfl rfl hsz rfl (lv_room hr) d9 hc) (fun r N1 H1 locs1 h hw1 => ?_)
    exact kk r N1 H1 locs1 h hw1
  · refine c_callJ (val := vL) (mc := 0) (ms := 0) X hw (va_runU (C := "ToldPowers$3") (As := [.ref x]) (rest := rest) X.1 hM (cu_mk (x := ⟨"ToldPowers$Sum", "of", "([I)J"⟩) (owner := "ToldPowers$Sum") X.1.2.2.2.2 (lw_meth q1914) rfl rfl rfl ⟨show 3 + 1 * d + 1 ≤ R.frames by omega, show 8 + (8 + 11) + (60 + 29 * d) ≤ R.locals by omega⟩ (X.1.2.2.2.2 _ q147) ⟨by decide, by decide⟩ (by decide +kernel : (parseMethodDescriptor "([I)J").map (fun d => d.parameters.length) = some 1) (X.1.2.2.2.2 _ hq) (X.1.2.2.2.2 _ q1905) (va_Decl.abs (va_Nw.of rfl (X.2.2.2.1.decl (args := #[]) X.2.2.1 q1904))) (X.1.2.2.2.2 _ q1912) (X.1.2.2.2.2 _ q1913)) ⟨cPre_blind, c_recv X hw hN rfl, fun U hU hW => ⟨rfl, X.preJ hw hU hW⟩⟩ rfl rfl hsz rfl (lv_room hr) d9 hc) (fun r N1 H1 locs1 h hw1 => ?_)
    exact kk r N1 H1 locs1 h hw1
  · refine c_callJ (val := vL) (mc := 0) (ms := 0) X hw (va_runU (C := "ToldPowers$4") (As := [.ref x]) (rest := rest) X.1 hM (cu_mk (x := ⟨"ToldPowers$Sum", "of", "([I)J"⟩) (owner := "ToldPowers$Sum") X.1.2.2.2.2 (lw_meth q1917) rfl rfl rfl ⟨show 3 + 1 * d + 1 ≤ R.frames by omega, show 8 + (7 + 11) + (60 + 29 * d) ≤ R.locals by omega⟩ (X.1.2.2.2.2 _ q146) ⟨by decide, by decide⟩ (by decide +kernel : (parseMethodDescriptor "([I)J").map (fun d => d.parameters.length) = some 1) (X.1.2.2.2.2 _ hq) (X.1.2.2.2.2 _ q1905) (va_Decl.abs (va_Nw.of rfl (X.2.2.2.1.decl (args := #[]) X.2.2.1 q1904))) (X.1.2.2.2.2 _ q1928) (X.1.2.2.2.2 _ q1916)) ⟨cPre_blind, c_recv X hw hN rfl, fun U hU hW => ⟨rfl, X.preJ hw hU hW⟩⟩ rfl rfl hsz rfl (lv_room hr) d9 hc) (fun r N1 H1 locs1 h hw1 => ?_)
    exact kk r N1 H1 locs1 h hw1
end SUMC
def wX13_of_15 (K : Nat → Nat → Nat) (rc : (Int64 → NM → Prop) → NM → Nat → Nat → Prop) (post : Int64 → NM → Prop) : Nat → Nat → Nat → Int64 → Int64 → Int32 → NM → Prop
  | 0, _, _, _, _, _, _ => False
  | n + 1, x0, x1, x2, x4, x6, N => ∃ f9 f10, N x0 = some (eO 11 [va_rf f9, .int f10]) ∧ (((f10 ≤ x6) → (post x4 N)) ∧ (¬ (f10 ≤ x6) → (wX0_product K (fun r12 N13 => wX13_of_15 K rc post n x0 x1 x2 r12 (x6 + (1 : Int32)) N13) N x4 x2 x1)))
def wX13_of (K : Nat → Nat → Nat) (rc : (Int64 → NM → Prop) → NM → Nat → Nat → Prop) (post : Int64 → NM → Prop) (N : NM) (x0 : Nat) (x1 : Nat) : Prop :=
  ∃ f2 f3, N x0 = some (eO 11 [va_rf f2, .int f3]) ∧ (∃ a4, f2 = some a4 ∧ (rc (fun r6 N7 => (∃ k, wX13_of_15 K rc post k x0 x1 r6 (1 : Int64) (0 : Int32) N7)) N a4 x1))
theorem kX13_of_15 {p : Program} {l : Launch} {e : Env} {s : State} {m : MethodId} {args : Array Value} {below : List Frame} {meth : Method} {c : Code} {G : gG} {A : Nat → Prop} {d : Nat} {rc : (Int64 → NM → Prop) → NM → Nat → Nat → Prop} {post : Int64 → NM → Prop} (X : cX G A RX13 p s m args c cX13_of 7) (hr : meth.sig.returnType = (some .long)) (hlk : meth.locks = false) (hI : ∀ {post : Int64 → NM → Prop} {N : NM} {a x : Nat}, rc post N a x → sumMet l G d post N a x) : ∀ (n : Nat) (x0 : Nat) (x1 : Nat) (x2 : Int64) (x4 : Int64) (x6 : Int32) (N : NM) (H : Heap) (locs : List Loc) (ls : Array Slot), wX13_of_15 (gC G) rc post n x0 x1 x2 x4 x6 N → cH G A s [] N H locs → lv_has ls 7 [(0, .ref x0), (1, .ref x1), (2, .long x2), (4, .long x4), (6, .int x6)] → W p l e ⟨4 + 1 * d, 0, 0, 89 + 29 * d⟩ s m args below meth c H locs 0 0 (MQ below (gQ vL post (fun u H => cBw G A (jW u).1 (jW u).2 H) A) args s 0 0 A) (F0 m 15 ls []) := by
  have hx := X.1.1
  have hb := X.1.2.1
  have hml := X.1.2.2.1
  have hown := X.1.2.2.2.1
  have hts := X.1.2.2.2.2
  intro n
  induction n with
  | zero =>
    intro x0 x1 x2 x4 x6 N H locs ls h
    exact False.elim h
  | succ n ih =>
    intro x0 x1 x2 x4 x6 N H locs ls h hw hl
    unfold wX13_of_15 at h
    refine lv_iload (pc := 15) hx hb dX13_of_15 (lv_at hl 4 rfl) ?_
    refine lv_aload_n (pc := 17) hx hb dX13_of_17 rfl (lv_at hl 0 rfl) ?_
    obtain ⟨f9, f10, hN8, h⟩ := h
    refine c_get (pc := 18) X hw hN8 in_X13 rfl 1 (by decide) q1505 rfl rfl dX13_of_18 ?_
    refine lv_icmp_ge (pc := 21) (tgt := 39) hx hb dX13_of_21 rfl (fun c11 => ?_) (fun c11 => ?_)
    · have h := h.1 c11
      refine lv_lload (pc := 39) hx hb dX13_of_39 (lv_at hl 3 rfl) ?_
      exact W.lret (pc := 41) hx hb hr (fun t ht hW => c_ret (val := vL) (lw := jW) (u := N) hw h ht) hw.2.2.2 dX13_of_41 hlk
    · have h := h.2 c11
      refine lv_lload (pc := 24) hx hb dX13_of_24 (lv_at hl 3 rfl) ?_
      refine lv_lload_n (pc := 26) hx hb dX13_of_26 rfl (lv_at hl 2 rfl) ?_
      refine lv_aload_n (pc := 27) hx hb dX13_of_27 rfl (lv_at hl 1 rfl) ?_
      refine c_callJ (pc := 28) (val := vL) X hw (va_runSN (As := [.long x4, .long x2, .ref x1]) (rest := []) X.1 (tX0_product X.2.2.1 (sz := H.size) h) ⟨va_cnB 3 hts (lw_meth q1921) rfl rfl rfl (X.nest q1919) (hts _ q102) ⟨by decide, by decide, (by decide +kernel : (parseMethodDescriptor yX0_product.desc).map (fun d => d.parameters.length) = some 3)⟩ ⟨(by first | exact Nat.le_of_ble_eq_true rfl | exact le_d rfl), (by first | exact Nat.le_of_ble_eq_true rfl | exact le_d rfl)⟩, hts _ q1920, trivial⟩ ⟨cPre_blind, fun U hU hW => ⟨rfl, X.preJ hw hU hW⟩⟩ rfl rfl hl.1 rfl (lv_room ((by first | exact Nat.le_of_ble_eq_true rfl | exact le_d rfl))) dX13_of_28 ⟨show 0 + 0 ≤ 0 by omega, show 0 + 0 ≤ 0 by omega⟩) (fun r12 N13 H locs h hw => ?_)
      refine W.eq (g2 := F0 m 31 ls (.long r12 :: [])) rfl ?_
      refine lv_lstore (pc := 31) (lv' := [(4, .long r12), (0, .ref x0), (1, .ref x1), (2, .long x2), (6, .int x6)]) hx hb dX13_of_31 hl (by decide) rfl (fun ls hl => ?_)
      refine lv_iinc (pc := 33) (v := x6 + (1 : Int32)) (lv' := [(6, .int (x6 + (1 : Int32))), (4, .long r12), (0, .ref x0), (1, .ref x1), (2, .long x2)]) hx hb dX13_of_33 hl (k := 4) rfl rfl (by decide) rfl (fun ls hl => ?_)
      refine lv_goto (pc := 36) (tgt := 15) hx hb dX13_of_36 rfl ?_
      exact ih _ _ _ _ _ _ _ _ _ h hw (lv_sub hl [2, 3, 4, 1, 0] rfl)
theorem tX13_of {l : Launch} {G : gG} (hO : gOk G) {d : Nat} {rc : (Int64 → NM → Prop) → NM → Nat → Nat → Prop} (hI : ∀ {post : Int64 → NM → Prop} {N : NM} {a x : Nat}, rc post N a x → sumMet l G d post N a x) {post : Int64 → NM → Prop} {N : NM} {x0 : Nat} {x1 : Nat} {sz : Nat} (h : wX13_of (gC G) rc post N x0 x1) : Met l yX13_of (ws_ yX13_of cX13_of 7 (some .long)) ⟨4 + 1 * d, 0, 0, 89 + 29 * d⟩ (va_Pc [.ref x0, .ref x1] (cPre G [] N sz)) (gQ vL post (fun u H => cBw G (cA [] N sz) (jW u).1 (jW u).2 H) (cA [] N sz)) 0 0 (cA [] N sz) := by
  refine c_ofW (lw := jW) (by decide) hO ((by first | exact Nat.le_of_ble_eq_true rfl | exact le_d rfl)) (fun p e s m below meth c ls A X hr hlk hin hw hl => ?_)
  have hl : lv_has ls 7 [(0, .ref x0), (1, .ref x1)] := hl
  have hx := X.1.1
  have hb := X.1.2.1
  have hml := X.1.2.2.1
  have hown := X.1.2.2.2.1
  have hts := X.1.2.2.2.2
  obtain ⟨H, eH⟩ : ∃ z, z = s.heap := ⟨_, rfl⟩
  rw [← eH] at hw ⊢
  obtain ⟨locs, eLo⟩ : ∃ z : List Loc, z = [] := ⟨_, rfl⟩
  rw [← eLo] at hw ⊢
  unfold wX13_of at h
  refine lv_aload_n (pc := 0) hx hb dX13_of_0 rfl (lv_at hl 0 rfl) ?_
  obtain ⟨f2, f3, hN1, h⟩ := h
  refine c_get (pc := 1) X hw hN1 in_X13 rfl 0 (by decide) q1504 rfl rfl dX13_of_1 ?_
  refine lv_aload_n (pc := 4) hx hb dX13_of_4 rfl (lv_at hl 1 rfl) ?_
  obtain ⟨a4, hr5, h⟩ := h
  refine W.eq (g2 := F0 m 5 ls [.ref x1, .ref a4]) (by rw [hr5]; rfl) ?_
  refine c_sumOf (pc := 5) (rest := []) X hw (hI h) q1918 ⟨show 3 + 1 * d + 1 ≤ 4 + 1 * d by omega, show 29 + (60 + 29 * d) ≤ 89 + 29 * d by omega⟩ hl.1 ((by first | exact Nat.le_of_ble_eq_true rfl | exact le_d rfl)) ⟨Nat.le_refl _, Nat.le_refl _⟩ dX13_of_5 (fun r6 N7 H locs h hw => ?_)
  refine W.eq (g2 := F0 m 8 ls (.long r6 :: [])) rfl ?_
  refine lv_lstore_n (pc := 8) (lv' := [(2, .long r6), (0, .ref x0), (1, .ref x1)]) hx hb dX13_of_8 rfl hl (by decide) rfl (fun ls hl => ?_)
  refine lv_lconst (pc := 9) (v := (1 : Int64)) hx hb dX13_of_9 (by decide) ?_
  refine lv_lstore (pc := 10) (lv' := [(4, .long (1 : Int64)), (2, .long r6), (0, .ref x0), (1, .ref x1)]) hx hb dX13_of_10 hl (by decide) rfl (fun ls hl => ?_)
  refine lv_iconst (pc := 12) (v := (0 : Int32)) hx hb dX13_of_12 (by decide) ?_
  refine lv_istore (pc := 13) (lv' := [(6, .int (0 : Int32)), (4, .long (1 : Int64)), (2, .long r6), (0, .ref x0), (1, .ref x1)]) hx hb dX13_of_13 hl (by decide) rfl (fun ls hl => ?_)
  obtain ⟨k, h⟩ := h
  exact kX13_of_15 X hr hlk hI  k _ _ _ _ _ _ _ _ _ h hw (lv_sub hl [3, 4, 2, 1, 0] rfl)

def wX14_of_65 (K : Nat → Nat → Nat) (rc : (Int64 → NM → Prop) → NM → Nat → Nat → Prop) (post : Int64 → NM → Prop) (x0 : Nat) (x1 : Nat) (x2 : Int64) (x4 : Int64) (v0 : Int64) (N : NM) : Prop :=
  ∃ f28 f29 f30, N x0 = some (eO 10 [va_rf f28, va_rf f29, .int f30]) ∧ (wX0_goesRound (fun r31 => ((r31 = (0 : Int32)) → (post v0 N)) ∧ (¬ (r31 = (0 : Int32)) → (∃ n34 f35, N x1 = some (eN 0 n34 f35) ∧ (vp_in (6 : Int32) n34 ∧ (∀ N36, N36 = va_up N x1 (some (eN 0 n34 (upd f35 (6 : Int32).toNatClampNeg (1 : Int32)))) → (post v0 N36)))))) f30 x2 x4 v0)
def wX14_of_45 (K : Nat → Nat → Nat) (rc : (Int64 → NM → Prop) → NM → Nat → Nat → Prop) (post : Int64 → NM → Prop) (x0 : Nat) (x1 : Nat) (x2 : Int64) (x4 : Int64) (N : NM) : Prop :=
  ∃ f23 f24 f25, N x0 = some (eO 10 [va_rf f23, va_rf f24, .int f25]) ∧ (((f25 = (43 : Int32)) → (wX14_of_65 K rc post x0 x1 x2 x4 (x2 + x4) N)) ∧ (¬ (f25 = (43 : Int32)) → (wX14_of_65 K rc post x0 x1 x2 x4 (x2 - x4) N)))
def wX14_of (K : Nat → Nat → Nat) (rc : (Int64 → NM → Prop) → NM → Nat → Nat → Prop) (post : Int64 → NM → Prop) (N : NM) (x0 : Nat) (x1 : Nat) : Prop :=
  ∃ f2 f3 f4, N x0 = some (eO 10 [va_rf f2, va_rf f3, .int f4]) ∧ (∃ a5, f2 = some a5 ∧ (rc (fun r7 N8 => ∃ f10 f11 f12, N8 x0 = some (eO 10 [va_rf f10, va_rf f11, .int f12]) ∧ (∃ a13, f11 = some a13 ∧ (rc (fun r15 N16 => ∃ f18 f19 f20, N16 x0 = some (eO 10 [va_rf f18, va_rf f19, .int f20]) ∧ (((f20 = (43 : Int32)) → (wX14_of_45 K rc post x0 x1 r7 r15 N16)) ∧ (¬ (f20 = (43 : Int32)) → (((f20 = (45 : Int32)) → (wX14_of_45 K rc post x0 x1 r7 r15 N16)) ∧ (¬ (f20 = (45 : Int32)) → (wX0_product K (fun r41 N42 => post r41 N42) N16 r7 r15 x1)))))) N8 a13 x1))) N a5 x1))
theorem kX14_of_65 {p : Program} {l : Launch} {e : Env} {s : State} {m : MethodId} {args : Array Value} {below : List Frame} {meth : Method} {c : Code} {G : gG} {A : Nat → Prop} {d : Nat} {rc : (Int64 → NM → Prop) → NM → Nat → Nat → Prop} {post : Int64 → NM → Prop} (X : cX G A RX14 p s m args c cX14_of 8) (hr : meth.sig.returnType = (some .long)) (hlk : meth.locks = false) (hI : ∀ {post : Int64 → NM → Prop} {N : NM} {a x : Nat}, rc post N a x → sumMet l G d post N a x) : ∀ (x0 : Nat) (x1 : Nat) (x2 : Int64) (x4 : Int64) (v0 : Int64) (N : NM) (H : Heap) (locs : List Loc) (ls : Array Slot), wX14_of_65 (gC G) rc post x0 x1 x2 x4 v0 N → cH G A s [] N H locs → lv_has ls 8 [(0, .ref x0), (1, .ref x1), (2, .long x2), (4, .long x4)] → W p l e ⟨4 + 1 * d, 0, 0, 89 + 29 * d⟩ s m args below meth c H locs 0 0 (MQ below (gQ vL post (fun u H => cBw G A (jW u).1 (jW u).2 H) A) args s 0 0 A) (F0 m 65 ls [.long v0]) := by
  have hx := X.1.1
  have hb := X.1.2.1
  have hml := X.1.2.2.1
  have hown := X.1.2.2.2.1
  have hts := X.1.2.2.2.2
  intro x0 x1 x2 x4 v0 N H locs ls h hw hl
  unfold wX14_of_65 at h
  refine lv_lstore (pc := 65) (lv' := [(6, .long v0), (0, .ref x0), (1, .ref x1), (2, .long x2), (4, .long x4)]) hx hb dX14_of_65 hl (by decide) rfl (fun ls hl => ?_)
  refine lv_aload_n (pc := 67) hx hb dX14_of_67 rfl (lv_at hl 1 rfl) ?_
  obtain ⟨f28, f29, f30, hN27, h⟩ := h
  refine c_get (pc := 68) X hw hN27 in_X14 rfl 2 (by decide) q1522 rfl rfl dX14_of_68 ?_
  refine lv_lload_n (pc := 71) hx hb dX14_of_71 rfl (lv_at hl 3 rfl) ?_
  refine lv_lload (pc := 72) hx hb dX14_of_72 (lv_at hl 4 rfl) ?_
  refine lv_lload (pc := 74) hx hb dX14_of_74 (lv_at hl 0 rfl) ?_
  refine p_call (pc := 76) (val := vI) ((va_runSN (As := [.int f30, .long x2, .long x4, .long v0]) (rest := []) X.1 (tX0_goesRound h) ⟨va_cnB 4 hts (lw_meth q1924) rfl rfl rfl (X.nest q1927) (hts _ q102) ⟨by decide, by decide, (by decide +kernel : (parseMethodDescriptor yX0_goesRound.desc).map (fun d => d.parameters.length) = some 4)⟩ ⟨(by first | exact Nat.le_of_ble_eq_true rfl | exact le_d rfl), (by first | exact Nat.le_of_ble_eq_true rfl | exact le_d rfl)⟩, hts _ q1923, trivial⟩ ⟨pc_blind, fun U _ _ => ⟨rfl, trivial⟩⟩ rfl rfl hl.1 rfl (lv_room ((by first | exact Nat.le_of_ble_eq_true rfl | exact le_d rfl))) dX14_of_76 ⟨show 0 ≤ 0 by omega, show 0 ≤ 0 by omega⟩).run) (fun r31 h => ?_)
  refine W.eq (g2 := F0 m 79 ls (.int r31 :: [])) rfl ?_
  refine lv_if_eq (pc := 79) (tgt := 87) hx hb dX14_of_79 rfl (fun c32 => ?_) (fun c32 => ?_)
  · have h := h.1 c32
    refine lv_lload (pc := 87) hx hb dX14_of_87 (lv_at hl 0 rfl) ?_
    exact W.lret (pc := 89) hx hb hr (fun t ht hW => c_ret (val := vL) (lw := jW) (u := N) hw h ht) hw.2.2.2 dX14_of_89 hlk
  · have h := h.2 c32
    refine lv_aload_n (pc := 82) hx hb dX14_of_82 rfl (lv_at hl 2 rfl) ?_
    refine lv_bipush (pc := 83) (v := (6 : Int32)) hx hb dX14_of_83 (by decide) ?_
    refine lv_iconst (pc := 85) (v := (1 : Int32)) hx hb dX14_of_85 (by decide) ?_
    obtain ⟨n34, f35, hN33, h⟩ := h
    obtain ⟨hi, h⟩ := h
    refine c_iast (pc := 86) X hw hN33 hi dX14_of_86 (fun H locs hw => ?_)
    obtain ⟨N36, e37⟩ : ∃ z, z = va_up N x1 (some (eN 0 n34 (upd f35 (6 : Int32).toNatClampNeg (1 : Int32)))) := ⟨_, rfl⟩
    have hw : cH G A s [] N36 H locs := by rw [e37]; exact hw
    have h := h N36 e37
    have hN38 : N36 x1 = some (eN 0 n34 (upd f35 (6 : Int32).toNatClampNeg (1 : Int32))) := by rw [e37]; exact up_s
    have hN39 := up_k (x := some (eN 0 n34 (upd f35 (6 : Int32).toNatClampNeg (1 : Int32)))) hN33 hN27 (show (1 : Nat) ≠ 20 by decide)
    rw [← e37] at hN39
    refine lv_lload (pc := 87) hx hb dX14_of_87 (lv_at hl 0 rfl) ?_
    exact W.lret (pc := 89) hx hb hr (fun t ht hW => c_ret (val := vL) (lw := jW) (u := N36) hw h ht) hw.2.2.2 dX14_of_89 hlk
theorem kX14_of_45 {p : Program} {l : Launch} {e : Env} {s : State} {m : MethodId} {args : Array Value} {below : List Frame} {meth : Method} {c : Code} {G : gG} {A : Nat → Prop} {d : Nat} {rc : (Int64 → NM → Prop) → NM → Nat → Nat → Prop} {post : Int64 → NM → Prop} (X : cX G A RX14 p s m args c cX14_of 8) (hr : meth.sig.returnType = (some .long)) (hlk : meth.locks = false) (hI : ∀ {post : Int64 → NM → Prop} {N : NM} {a x : Nat}, rc post N a x → sumMet l G d post N a x) : ∀ (x0 : Nat) (x1 : Nat) (x2 : Int64) (x4 : Int64) (N : NM) (H : Heap) (locs : List Loc) (ls : Array Slot), wX14_of_45 (gC G) rc post x0 x1 x2 x4 N → cH G A s [] N H locs → lv_has ls 8 [(0, .ref x0), (1, .ref x1), (2, .long x2), (4, .long x4)] → W p l e ⟨4 + 1 * d, 0, 0, 89 + 29 * d⟩ s m args below meth c H locs 0 0 (MQ below (gQ vL post (fun u H => cBw G A (jW u).1 (jW u).2 H) A) args s 0 0 A) (F0 m 45 ls []) := by
  have hx := X.1.1
  have hb := X.1.2.1
  have hml := X.1.2.2.1
  have hown := X.1.2.2.2.1
  have hts := X.1.2.2.2.2
  intro x0 x1 x2 x4 N H locs ls h hw hl
  unfold wX14_of_45 at h
  refine lv_aload_n (pc := 45) hx hb dX14_of_45 rfl (lv_at hl 0 rfl) ?_
  obtain ⟨f23, f24, f25, hN22, h⟩ := h
  refine c_get (pc := 46) X hw hN22 in_X14 rfl 2 (by decide) q1522 rfl rfl dX14_of_46 ?_
  refine lv_bipush (pc := 49) (v := (43 : Int32)) hx hb dX14_of_49 (by decide) ?_
  refine lv_icmp_ne (pc := 51) (tgt := 61) hx hb dX14_of_51 rfl (fun c26 => ?_) (fun c26 => ?_)
  · have h := h.2 c26
    refine lv_lload_n (pc := 61) hx hb dX14_of_61 rfl (lv_at hl 2 rfl) ?_
    refine lv_lload (pc := 62) hx hb dX14_of_62 (lv_at hl 3 rfl) ?_
    refine lv_lsub (pc := 64) hx hb dX14_of_64 ?_
    exact kX14_of_65 X hr hlk hI  _ _ _ _ _ _ _ _ _ h hw (lv_sub hl [0, 1, 2, 3] rfl)
  · have h := h.1 c26
    refine lv_lload_n (pc := 54) hx hb dX14_of_54 rfl (lv_at hl 2 rfl) ?_
    refine lv_lload (pc := 55) hx hb dX14_of_55 (lv_at hl 3 rfl) ?_
    refine lv_ladd (pc := 57) hx hb dX14_of_57 ?_
    refine lv_goto (pc := 58) (tgt := 65) hx hb dX14_of_58 rfl ?_
    exact kX14_of_65 X hr hlk hI  _ _ _ _ _ _ _ _ _ h hw (lv_sub hl [0, 1, 2, 3] rfl)
theorem tX14_of {l : Launch} {G : gG} (hO : gOk G) {d : Nat} {rc : (Int64 → NM → Prop) → NM → Nat → Nat → Prop} (hI : ∀ {post : Int64 → NM → Prop} {N : NM} {a x : Nat}, rc post N a x → sumMet l G d post N a x) {post : Int64 → NM → Prop} {N : NM} {x0 : Nat} {x1 : Nat} {sz : Nat} (h : wX14_of (gC G) rc post N x0 x1) : Met l yX14_of (ws_ yX14_of cX14_of 8 (some .long)) ⟨4 + 1 * d, 0, 0, 89 + 29 * d⟩ (va_Pc [.ref x0, .ref x1] (cPre G [] N sz)) (gQ vL post (fun u H => cBw G (cA [] N sz) (jW u).1 (jW u).2 H) (cA [] N sz)) 0 0 (cA [] N sz) := by
  refine c_ofW (lw := jW) (by decide) hO ((by first | exact Nat.le_of_ble_eq_true rfl | exact le_d rfl)) (fun p e s m below meth c ls A X hr hlk hin hw hl => ?_)
  have hl : lv_has ls 8 [(0, .ref x0), (1, .ref x1)] := hl
  have hx := X.1.1
  have hb := X.1.2.1
  have hml := X.1.2.2.1
  have hown := X.1.2.2.2.1
  have hts := X.1.2.2.2.2
  obtain ⟨H, eH⟩ : ∃ z, z = s.heap := ⟨_, rfl⟩
  rw [← eH] at hw ⊢
  obtain ⟨locs, eLo⟩ : ∃ z : List Loc, z = [] := ⟨_, rfl⟩
  rw [← eLo] at hw ⊢
  unfold wX14_of at h
  refine lv_aload_n (pc := 0) hx hb dX14_of_0 rfl (lv_at hl 0 rfl) ?_
  obtain ⟨f2, f3, f4, hN1, h⟩ := h
  refine c_get (pc := 1) X hw hN1 in_X14 rfl 0 (by decide) q1520 rfl rfl dX14_of_1 ?_
  refine lv_aload_n (pc := 4) hx hb dX14_of_4 rfl (lv_at hl 1 rfl) ?_
  obtain ⟨a5, hr6, h⟩ := h
  refine W.eq (g2 := F0 m 5 ls [.ref x1, .ref a5]) (by rw [hr6]; rfl) ?_
  refine c_sumOf (pc := 5) (rest := []) X hw (hI h) q1915 ⟨show 3 + 1 * d + 1 ≤ 4 + 1 * d by omega, show 29 + (60 + 29 * d) ≤ 89 + 29 * d by omega⟩ hl.1 ((by first | exact Nat.le_of_ble_eq_true rfl | exact le_d rfl)) ⟨Nat.le_refl _, Nat.le_refl _⟩ dX14_of_5 (fun r7 N8 H locs h hw => ?_)
  refine W.eq (g2 := F0 m 8 ls (.long r7 :: [])) rfl ?_
  refine lv_lstore_n (pc := 8) (lv' := [(2, .long r7), (0, .ref x0), (1, .ref x1)]) hx hb dX14_of_8 rfl hl (by decide) rfl (fun ls hl => ?_)
  refine lv_aload_n (pc := 9) hx hb dX14_of_9 rfl (lv_at hl 1 rfl) ?_
  obtain ⟨f10, f11, f12, hN9, h⟩ := h
  refine c_get (pc := 10) X hw hN9 in_X14 rfl 1 (by decide) q1521 rfl rfl dX14_of_10 ?_
  refine lv_aload_n (pc := 13) hx hb dX14_of_13 rfl (lv_at hl 2 rfl) ?_
  obtain ⟨a13, hr14, h⟩ := h
  refine W.eq (g2 := F0 m 14 ls [.ref x1, .ref a13]) (by rw [hr14]; rfl) ?_
  refine c_sumOf (pc := 14) (rest := []) X hw (hI h) q1915 ⟨show 3 + 1 * d + 1 ≤ 4 + 1 * d by omega, show 29 + (60 + 29 * d) ≤ 89 + 29 * d by omega⟩ hl.1 ((by first | exact Nat.le_of_ble_eq_true rfl | exact le_d rfl)) ⟨Nat.le_refl _, Nat.le_refl _⟩ dX14_of_14 (fun r15 N16 H locs h hw => ?_)
  refine W.eq (g2 := F0 m 17 ls (.long r15 :: [])) rfl ?_
  refine lv_lstore (pc := 17) (lv' := [(4, .long r15), (2, .long r7), (0, .ref x0), (1, .ref x1)]) hx hb dX14_of_17 hl (by decide) rfl (fun ls hl => ?_)
  refine lv_aload_n (pc := 19) hx hb dX14_of_19 rfl (lv_at hl 2 rfl) ?_
  obtain ⟨f18, f19, f20, hN17, h⟩ := h
  refine c_get (pc := 20) X hw hN17 in_X14 rfl 2 (by decide) q1522 rfl rfl dX14_of_20 ?_
  refine lv_bipush (pc := 23) (v := (43 : Int32)) hx hb dX14_of_23 (by decide) ?_
  refine lv_icmp_eq (pc := 25) (tgt := 45) hx hb dX14_of_25 rfl (fun c21 => ?_) (fun c21 => ?_)
  · have h := h.1 c21
    exact kX14_of_45 X hr hlk hI  _ _ _ _ _ _ _ _ h hw (lv_sub hl [2, 3, 1, 0] rfl)
  · have h := h.2 c21
    refine lv_aload_n (pc := 28) hx hb dX14_of_28 rfl (lv_at hl 2 rfl) ?_
    refine c_get (pc := 29) X hw hN17 in_X14 rfl 2 (by decide) q1522 rfl rfl dX14_of_29 ?_
    refine lv_bipush (pc := 32) (v := (45 : Int32)) hx hb dX14_of_32 (by decide) ?_
    refine lv_icmp_eq (pc := 34) (tgt := 45) hx hb dX14_of_34 rfl (fun c40 => ?_) (fun c40 => ?_)
    · have h := h.1 c40
      exact kX14_of_45 X hr hlk hI  _ _ _ _ _ _ _ _ h hw (lv_sub hl [2, 3, 1, 0] rfl)
    · have h := h.2 c40
      refine lv_lload_n (pc := 37) hx hb dX14_of_37 rfl (lv_at hl 1 rfl) ?_
      refine lv_lload (pc := 38) hx hb dX14_of_38 (lv_at hl 0 rfl) ?_
      refine lv_aload_n (pc := 40) hx hb dX14_of_40 rfl (lv_at hl 3 rfl) ?_
      refine c_callJ (pc := 41) (val := vL) X hw (va_runSN (As := [.long r7, .long r15, .ref x1]) (rest := []) X.1 (tX0_product X.2.2.1 (sz := H.size) h) ⟨va_cnB 3 hts (lw_meth q1921) rfl rfl rfl (X.nest q1926) (hts _ q102) ⟨by decide, by decide, (by decide +kernel : (parseMethodDescriptor yX0_product.desc).map (fun d => d.parameters.length) = some 3)⟩ ⟨(by first | exact Nat.le_of_ble_eq_true rfl | exact le_d rfl), (by first | exact Nat.le_of_ble_eq_true rfl | exact le_d rfl)⟩, hts _ q1920, trivial⟩ ⟨cPre_blind, fun U hU hW => ⟨rfl, X.preJ hw hU hW⟩⟩ rfl rfl hl.1 rfl (lv_room ((by first | exact Nat.le_of_ble_eq_true rfl | exact le_d rfl))) dX14_of_41 ⟨show 0 + 0 ≤ 0 by omega, show 0 + 0 ≤ 0 by omega⟩) (fun r41 N42 H locs h hw => ?_)
      refine W.eq (g2 := F0 m 44 ls (.long r41 :: [])) rfl ?_
      exact W.lret (pc := 44) hx hb hr (fun t ht hW => c_ret (val := vL) (lw := jW) (u := N42) hw h ht) hw.2.2.2 dX14_of_44 hlk

/-- Sum.of, d levels deep -/
def wSum (K : Nat → Nat → Nat) : Nat → (Int64 → NM → Prop) → NM → Nat → Nat → Prop
  | 0, _, _, _, _ => False
  | d + 1, post, N, a, x => ((∃ fs, N a = some (eO 8 fs)) ∧ wX11_of K post N a x) ∨ ((∃ fs, N a = some (eO 9 fs)) ∧ wX12_of K post N a x) ∨ ((∃ fs, N a = some (eO 10 fs)) ∧ wX14_of K (fun post N a x => wSum K d post N a x) post N a x) ∨ ((∃ fs, N a = some (eO 11 fs)) ∧ wX13_of K (fun post N a x => wSum K d post N a x) post N a x)
theorem tSum {l : Launch} {G : gG} (hO : gOk G) : ∀ (d : Nat) {post : Int64 → NM → Prop} {N : NM} {a x : Nat}, wSum (gC G) d post N a x → sumMet l G d post N a x := by
  intro d
  induction d with
  | zero => intro post N a x h; exact False.elim h
  | succ d ih =>
    intro post N a x h sz
    rw [show 3 + 1 * (d + 1) = 4 + 1 * d by omega, show 60 + 29 * (d + 1) = 89 + 29 * d by omega]
    rcases h with ⟨h1, h⟩ | ⟨h1, h⟩ | ⟨h1, h⟩ | ⟨h1, h⟩
    · exact Or.inl ⟨h1, tX11_of hO h⟩
    · exact Or.inr (Or.inl ⟨h1, tX12_of hO h⟩)
    · exact Or.inr (Or.inr (Or.inl ⟨h1, tX14_of hO (fun h => ih h) h⟩))
    · exact Or.inr (Or.inr (Or.inr ⟨h1, tX13_of hO (fun h => ih h) h⟩))
def sumOb (N : NM) (a : Nat) : Prop := ∃ (ci : Nat) (fs : List Value), N a = some (eO ci fs) ∧ (ci = 8 ∨ ci = 9 ∨ ci = 10 ∨ ci = 11)
theorem c_anySum {p : Program} {s : State} {m : MethodId} {args : Array Value} {c : Code} {H : Heap} {locs : List Loc} {cc : ByteArray} {G : gG} {A : Nat → Prop} {own : String} {nL : Nat} {L : va_W} {N : NM} (X : cX G A own p s m args c cc nL) (hw : cH G A s L N H locs) {a : Nat} (h : sumOb N a) : va_Any "ToldPowers$Sum" s H a := by
  obtain ⟨ci, fs, hN, h | h | h | h⟩ := h <;> subst h
  · exact c_anyY X hw hN rfl q2590
  · exact c_anyY X hw hN rfl q2591
  · exact c_anyY X hw hN rfl q2593
  · exact c_anyY X hw hN rfl q2592
