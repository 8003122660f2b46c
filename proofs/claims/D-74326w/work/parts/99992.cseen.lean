set_option maxRecDepth 100000
set_option maxHeartbeats 4000000
/-! the component's reader: words -/
def snL (T : Nat → Int) (n : Nat) : Nat → Nat → List Int
  | 0, _ => []
  | m + 1, q => if isL (chr T n q) = true then T q :: snL T n m (q + 1) else []
theorem snL_len (T : Nat → Int) (n : Nat) : ∀ m q, (snL T n m q).length ≤ m
  | 0, _ => Nat.le_refl _
  | m + 1, q => by
    unfold snL
    split
    · rw [List.length_cons]; have := snL_len T n m (q + 1); omega
    · exact Nat.zero_le _
section
variable {K : Nat → Nat → Nat} {a : Nat → Nat}
/-- append(char), where room is -/
theorem c_appC0 {post : Nat → NM → Prop} {N0 N : NM} {x bc bs MC MS : Nat} {L : List Int} {c : Int} (hB : sBd N0 N x L bc bs) (hc : 0 ≤ c ∧ c ≤ 127) (hl : L.length + 1 ≤ 16) (h : ∀ N', sBd N0 N' x (L ++ [c]) bc bs → fb N0 N x N' → post x N') : wJ11_append K post MC MS N x (iI c) := by
  obtain ⟨y, hS⟩ := hB
  have hS0 := hS
  obtain ⟨cap, f, hh, x0, y0, hd, h1, h2, h3, h4, h5, h6, h7⟩ := hS
  have hcap := h7.in
  have hxy : x ≠ y := fun e => by rw [e, h2] at h1; cases h1
  have fx : ∀ e, N x = some e → fk e = 0 := fun e he => by rw [h1] at he; cases he; rfl
  have fy : ∀ e, N y = some e → fk e = 0 := fun e he => by rw [h2] at he; cases he; rfl
  unfold wJ11_append wJ10_append wJ10_ensureCapacityInternal
  refine ⟨_, _, _, _, h1, MC, MS, Nat.le_refl _, Nat.le_refl _, _, _, _, _, h1, MC, MS, Nat.le_refl _, Nat.le_refl _, _, _, _, _, h1, _, rfl, _, _, h2, ?_⟩
  rw [show (1 : Int32) = iI 1 from rfl, iI_add, (sh0 _).1, nI_i, iI_sub, show (0 : Int32) = iI 0 from rfl, iI_le (by omega) (by omega) (by omega) (by omega)]
  refine b_t (by omega) ⟨_, _, _, _, h1, c_latin hS0 (b_f (by decide) ?_)⟩
  unfold wJ16_canEncode
  rw [show (255 : Int32) = iI 255 from rfl, iI_lt (by omega) (by omega) (by omega) (by omega)]
  refine b_f (by omega) (b_f (by decide) ⟨_, _, _, _, h1, fun N35 e35 => ⟨y, rfl, cap, f, by rw [e35, up_ne _ _ _ (Ne.symm hxy)]; exact h2, iI_in (by omega) (by omega) (by omega), fun N43 e43 => ?_⟩⟩)
  subst e35
  rw [nat_i (by omega), by8, iI_toInt (by omega) (by omega), show c % 256 = c by omega, show sgB c = c by unfold sgB; rw [if_pos (by omega)], nar8 (by omega), show upd f L.length (iI c) = putL f L.length [c] by rw [← putL_cons, putL_nil]] at e43
  subst e43
  refine h _ (sBy.put x0 y0 ((hd.up x _).up y _) hxy h3 h4 h5 (k := 1) (by omega) h7 (fun d hd => by rw [List.mem_singleton.mp hd]; exact hc) rfl (hh := hh) (by rw [up_ne _ _ _ hxy, up_eq, iI_add]; rfl) (up_eq _ _ _)) ⟨y, x0, y0, fx, fy, fun z e he z1 z2 => ?_⟩
  rw [up_ne _ _ _ z2, up_ne _ _ _ z1]
  exact he
theorem fb.nw {N0 N N' : NM} {x : Nat} (h : nw N0 N) (hf : fb N0 N x N') : nw N0 N' := fun z e he => by
  obtain ⟨y, x0, y0, -, -, hq⟩ := hf
  exact hq z e (h z e he) (fun c => by rw [c, x0] at he; cases he) (fun c => by rw [c, y0] at he; cases he)
theorem c_seen {post : Option Nat → NM → Prop} {S : CS} {N : NM} {T : Nat → Int} {n p x MC MS : Nat} {b d : Int32} (hL : cL K a S N) (hT : cTape S T n) (hx : N x = some (rdr a p b d)) (hp : p ≤ n) (hMC : 4 ≤ MC) (hMS : 40 ≤ MS) (h : ∀ N' r v, N r = none → N v = none → nw N N' → sTx N' r v (snL T n 8 p) → post (some r) N') : wX2_seen K post MC MS N x := by
  have ht := hT.1
  unfold wX2_seen
  refine ⟨by omega, by omega, fun nq hnq N5 e5 => ?_⟩
  subst e5
  have n1 := (nw.refl N).new hnq (eO 17 [va_rf none, .int 0, .int 0, .int 0])
  have hd : dm N (va_up N nq (some (eO 17 [va_rf none, .int 0, .int 0, .int 0]))) := (show dm N N from fun z h => h).up nq _
  refine ⟨1, 16, by omega, by omega, ?_⟩
  refine c_newB hnq hd (up_eq _ _ _) (by omega) (by omega) (fun N9 hB hf1 => ?_)
  have nn9 : nw N N9 := fb.nw n1 hf1
  refine ⟨_, _, _, _, nn9 x _ hx, 9, ?_⟩
  · skip
    have fin : ∀ (L : List Int) (N1 : NM), L.length ≤ 8 → nw N N1 → sBd N N1 nq L 7 4558 → (∀ N' r v, N r = none → N v = none → nw N N' → sTx N' r v L → post (some r) N') → wX2_seen_76 K post nq (MC - 1 - 1) (MS - 4 - 16) N1 := by
      intro L N1 hl hn hB h
      obtain ⟨f1, f2, f3, f4, o1⟩ := hB.x
      unfold wX2_seen_76
      refine ⟨_, _, _, _, o1, MC - 1 - 1, MS - 4 - 16, Nat.le_refl _, Nat.le_refl _, ?_⟩
      exact c_toStrL hB (by omega) (by omega) (fun N' r v r0 v0 hn' hs => h N' r v (hn.none r0) (hn.none v0) (hn.trans hn') hs)
    have go : ∀ (m q : Nat) (L : List Int) (N1 : NM), L.length + m = 8 → q ≤ n → nw N N1 → sBd N N1 nq L 7 4558 → (∀ N' r v, N r = none → N v = none → nw N N' → sTx N' r v (L ++ snL T n m q) → post (some r) N') → wX2_seen_13 K post (m + 1) x nq (iI (q : Nat)) (MC - 1 - 1) (MS - 4 - 16) N1 := by
      intro m
      induction m with
      | zero =>
        intro q L N1 hm hq hn hB h
        have hL1 := hL.nw hn
        rw [show snL T n 0 q = [] from rfl, List.append_nil] at h
        have ff := fin L N1 (by omega) hn hB h
        unfold wX2_seen_13
        refine ⟨_, _, _, _, hn _ _ hx, _, rfl, _, _, _, _, _, _, _, _, _, _, _, _, _, _, _, _, _, _, _, hL1.obj, ?_⟩
        rw [hT.2.1, iI_le (by omega) (by omega) (by omega) (by omega)]
        refine ⟨fun c => ff, fun c => ⟨_, rfl, _, _, hL1.tape, iI_in (by omega) (by omega) (by omega), ?_⟩⟩
        have tq := hT.2.2 q (by omega)
        have sq := sgB_in tq.2
        rw [nat_i (by omega), tq.1, iI_l (by omega) (by omega), show (97 : Int64) = lI 97 from rfl, show (122 : Int64) = lI 122 from rfl]
        refine c_isIn (by unfold i64; omega) (by unfold i64; omega) (by unfold i64; omega) (fun q1 q2 => b_f (by decide) ?_) (fun _ => b_t rfl ff)
        obtain ⟨y, cap, f, hh, x0, y0, hd, o1, o2⟩ := hB
        unfold wJ11_length wJ10_length
        refine ⟨_, _, _, _, o1, _, _, _, _, o1, _, _, _, _, o1, b_t ?_ ff⟩
        rw [show (8 : Int32) = iI 8 from rfl, iI_le (by omega) (by omega) (by omega) (by omega)]; omega
      | succ m ih =>
        intro q L N1 hm hq hn hB h
        have hL1 := hL.nw hn
        unfold snL at h
        have stop : ¬ (isL (chr T n q) = true) → wX2_seen_76 K post nq (MC - 1 - 1) (MS - 4 - 16) N1 := fun c => by
          rw [if_neg c, List.append_nil] at h
          exact fin L N1 (by omega) hn hB h
        unfold wX2_seen_13
        refine ⟨_, _, _, _, hn _ _ hx, _, rfl, _, _, _, _, _, _, _, _, _, _, _, _, _, _, _, _, _, _, _, hL1.obj, ?_⟩
        rw [hT.2.1, iI_le (by omega) (by omega) (by omega) (by omega)]
        refine ⟨fun c => stop (fun e => ?_), fun c => ⟨_, rfl, _, _, hL1.tape, iI_in (by omega) (by omega) (by omega), ?_⟩⟩
        · have := (chr_of (P := isL) (by decide) e).1; omega
        · have tq := hT.2.2 q (by omega)
          have sq := sgB_in tq.2
          have ec : chr T n q = T q := by unfold chr; rw [if_pos (by omega)]
          rw [nat_i (by omega), tq.1, iI_l (by omega) (by omega), show (97 : Int64) = lI 97 from rfl, show (122 : Int64) = lI 122 from rfl]
          refine c_isIn (by unfold i64; omega) (by unfold i64; omega) (by unfold i64; omega) (fun q1 q2 => b_f (by decide) ?_) (fun c2 => b_t rfl (stop (fun e => c2 ?_)))
          · have eT : sgB (T q) = T q := by unfold sgB at q1 q2 ⊢; split at q1 <;> omega
            have hl : isL (chr T n q) = true := by rw [ec]; exact (isL_iff _).2 (by omega)
            rw [if_pos hl] at h
            have hB0 := hB
            obtain ⟨y, cap, f, hh, x0, y0, hd, o1, o2⟩ := hB0
            unfold wJ11_length wJ10_length
            refine ⟨_, _, _, _, o1, _, _, _, _, o1, _, _, _, _, o1, b_f ?_ ⟨_, _, _, _, hn _ _ hx, _, rfl, _, _, _, _, _, _, _, _, _, _, _, _, _, _, _, _, _, _, _, hL1.obj, _, rfl, _, _, hL1.tape, iI_in (by omega) (by omega) (by omega), _, _, _, _, o1, 0, 0, Nat.zero_le _, Nat.zero_le _, ?_⟩⟩
            · rw [show (8 : Int32) = iI 8 from rfl, iI_le (by omega) (by omega) (by omega) (by omega)]; omega
            · have e16 : ((S.2.2.1 q).toUInt32 % 65536).toInt32 = iI (T q) := by
                rw [tq.1, eT]
                have := ch16_t ⟨(T q).toNat, by omega⟩
                simp only at this
                rw [show (((T q).toNat : Nat) : Int) = T q by omega] at this
                exact this
              rw [e16]
              refine c_appC0 hB (by omega) (by omega) (fun N2 hB2 hf2 => ?_)
              rw [show iI (q : Int) + 1 = iI ((q + 1 : Nat) : Int) by rw [show (1 : Int32) = iI 1 from rfl, iI_add]; rfl]
              refine ih (q + 1) (L ++ [T q]) N2 (by rw [List.length_append, List.length_singleton]; omega) (by omega) (fb.nw hn hf2) hB2 (fun N' r v k1 k2 k3 k4 => h N' r v k1 k2 k3 ?_)
              rw [List.append_assoc] at k4
              exact k4
          · rw [ec] at e
            have := (isL_iff _).1 e
            unfold sgB; rw [if_pos (by omega)]; omega
    exact go 8 p [] N9 rfl hp nn9 hB (fun N' r v h1 h2 h3 h4 => h N' r v h1 h2 h3 (by rw [List.nil_append] at h4; exact h4))
end
