set_option maxRecDepth 100000
set_option maxHeartbeats 4000000
/-! the component reads a way of a proof's line -/
def wyE (T : Nat → Int) (n : Nat) : ((Int × Nat × Int) ⊕ Nat) → (Int × Nat × Int) ⊕ Nat
  | .inl x => .inl x
  | .inr p => if ¬ sgIs T n p 59 then .inl (1, p, -1) else .inr p
theorem lnW_E {T : Nat → Int} {n : Nat} {z : Int} {R : (Int × Nat × Int) ⊕ Nat} : (∀ x, wyE T n R = .inl x → lnW T n z R = .inl x) ∧ (∀ p, wyE T n R = .inr p → lnW T n z R = lnE T n z p) := by
  cases R with
  | inl y => exact ⟨fun x e => (by cases e; rfl), fun p e => (by cases e)⟩
  | inr q =>
    unfold wyE lnW
    dsimp only
    by_cases c : sgIs T n q 59
    · rw [if_neg (fun z => z c)]
      exact ⟨fun x e => (by cases e), fun p e => (by cases e; rfl)⟩
    · rw [if_pos c]
      exact ⟨fun x e => (by cases e; unfold lnE; rw [if_pos c]), fun p e => (by cases e)⟩
/-- a thrown fault -/
def thr (N0 N' : NM) (y : Nat) (ch : List Nat) (k : Int) (pl : Nat) (i : Int) : Prop :=
  (i = -1 ∧ ch = [y] ∧ N0 y = none ∧ ∃ f1 f2 f3 f4 g, N' y = some (oWr f1 f2 f3 f4 g k (pl : Nat))) ∨
  (∃ r f1 f2 f3 f4 g, ch = [y, r] ∧ N0 y = none ∧ N0 r = none ∧ N' y = some (oIn r i) ∧ N' r = some (oWr f1 f2 f3 f4 g k (pl : Nat)))
/-- what a reading of a line's piece leaves -/
def lwO {α : Type} (a : Nat → Nat) (x : Nat) (d : Int32) (N : NM) (R : (Int × Nat × Int) ⊕ α) (pl : α → Nat) (post : Unit → NM → Prop) (xp : Nat → List Nat → NM → Prop) : Prop :=
  (∀ v, R = .inr v → ∀ N' b', kx x N N' → N' x = some (rdr a (pl v) b' d) → post () N') ∧
  (∀ k q i, R = .inl (k, q, i) → ∀ N' y ch, kx x N N' → dm N N' → thr N N' y ch k q i → xp y ch N')
section
variable {K : Nat → Nat → Nat} {a : Nat → Nat}
theorem thr.st {N0 N N' : NM} {y : Nat} {ch : List Nat} {k : Int} {pl : Nat} {i : Int} (h : thr N N' y ch k pl i) (hd : dm N0 N) : thr N0 N' y ch k pl i := by
  rcases h with ⟨h1, h2, h3, h4⟩ | ⟨r, f1, f2, f3, f4, g, h1, h2, h3, h4⟩
  · exact Or.inl ⟨h1, h2, hd.no h3, h4⟩
  · exact Or.inr ⟨r, f1, f2, f3, f4, g, h1, hd.no h2, hd.no h3, h4⟩
theorem lwO.st {α : Type} {x : Nat} {d : Int32} {N N1 : NM} {R : (Int × Nat × Int) ⊕ α} {pl : α → Nat} {post : Unit → NM → Prop} {xp : Nat → List Nat → NM → Prop} {e : NE} (h : lwO a x d N R pl post xp) (hk : kx x N N1) (hx : N1 x = some e) : lwO a x d N1 R pl post xp :=
  ⟨fun v hR N' b' k1 k2 => h.1 v hR N' b' (hk.trans k1) k2, fun k q i hR N' y ch k1 k2 k3 => h.2 k q i hR N' y ch (hk.trans k1) ((hk.dm hx).tr k2) (k3.st (hk.dm hx))⟩
theorem lwO.bad {α : Type} {x : Nat} {d : Int32} {N : NM} {R : (Int × Nat × Int) ⊕ α} {pl : α → Nat} {post : Unit → NM → Prop} {xp : Nat → List Nat → NM → Prop} {w : Int} {q : Nat} (h : lwO a x d N R pl post xp) (hR : R = .inl (w, q, -1)) {y : Nat} {f1 f2 f3 f4 : Option Nat} {g : Int32} (hy : N y = none) : xp y [y] (va_up N y (some (oWr f1 f2 f3 f4 g w (q : Nat)))) :=
  h.2 w q (-1) hR _ y [y] ((kx.refl x N).new hy _) ((dm.rf N).up y _) (Or.inl ⟨rfl, rfl, hy, f1, f2, f3, f4, g, up_eq _ _ _⟩)
theorem lwO.bad' {α : Type} {x : Nat} {d : Int32} {N : NM} {R : (Int × Nat × Int) ⊕ α} {pl : α → Nat} {post : Unit → NM → Prop} {xp : Nat → List Nat → NM → Prop} {w : Int} {q : Nat} (h : lwO a x d N R pl post xp) (hR : R = .inl (w, q, -1)) {e : NE} {y : Nat} {f1 f2 f3 f4 : Option Nat} {g : Int32} (hy : N y = none) : xp y [y] (va_up (va_up N x (some e)) y (some (oWr f1 f2 f3 f4 g w (q : Nat)))) :=
  h.2 w q (-1) hR _ y [y] (((kx.refl x N).at _).new hy _) (((dm.rf N).up x _).up y _) (Or.inl ⟨rfl, rfl, hy, f1, f2, f3, f4, g, up_eq _ _ _⟩)
theorem c_inner {post : Unit → NM → Prop} {N : NM} {y c : Nat} {r : Int} (hy : N y = some (eO 4 [va_rf none, va_rf none, va_rf none, va_rf none, va_rf none, .int 0, .int 0])) (h : post () (va_up N y (some (oIn c r)))) : wX8_init K post N y (iI r) (some c) := by
  unfold wX8_init wJ2_init_2_i wJ1_init_3_i
  refine ⟨_, _, _, _, _, _, _, hy, fun N9 e9 z12 N14 e14 z17 N19 e19 => b_t rfl (fun N23 e23 => ?_)⟩
  rw [e9, up_up] at e14
  rw [e14, up_up] at e19
  rw [e19, up_up] at e23
  unfold wJ1_init_3_i_41
  refine ⟨_, _, _, _, _, _, _, at_up e23, fun N34 e34 N37 e37 => b_t rfl (fun N41 e41 => ⟨_, _, _, _, _, _, _, at_up e41, fun N11 e11 => ?_⟩)⟩
  rw [e34, e23, up_up, up_up] at e37
  rw [e37, up_up] at e41
  rw [e41, up_up] at e11
  rw [e11]
  exact h
/-- a fault of a value is handed on, wrapped -/
theorem c_wrapI {xp : Nat → List Nat → NM → Prop} {N : NM} {q mc ms : Nat} {f1 f2 f3 f4 : Option Nat} {g : Int32} {w pl : Int} {o : Int} {ov : Int32} (eo : ov = iI o) (hq : N q = some (oWr f1 f2 f3 f4 g w pl)) (hmc : 1 ≤ mc) (hms : 7 ≤ ms) (h : ∀ N' y, nw N N' → dm N N' → N y = none → N' y = some (oIn q o) → N' q = some (oWr f1 f2 f3 f4 g w pl) → xp y [y, q] N') : 1 ≤ mc ∧ 7 ≤ ms ∧ (∀ nq148, N nq148 = none → (∀ N150, N150 = va_up N nq148 (some (eO 4 [va_rf none, va_rf none, va_rf none, va_rf none, va_rf none, .int (0 : Int32), .int (0 : Int32)])) → (wX8_init K (fun _ N154 => ∃ f156 f157 f158 f159 f160 f161 f162, N154 nq148 = some (eO 4 [va_rf f156, va_rf f157, va_rf f158, va_rf f159, va_rf f160, .int f161, .int f162]) ∧ (xp nq148 (nq148 :: [q]) N154)) N150 nq148 ov (some q)))) := by
  subst eo
  refine ⟨hmc, hms, fun y hy N32 e32 => c_inner (at_up e32) ?_⟩
  rw [e32, up_up]
  have qy : q ≠ y := fun c => by rw [c, hy] at hq; cases hq
  exact ⟨_, _, _, _, _, _, _, up_eq _ _ _, h _ y ((nw.refl N).new hy _) ((dm.rf N).up y _) hy (up_eq _ _ _) (by rw [up_ne _ _ _ qy]; exact hq)⟩
theorem wyRd_s (T : Nat → Int) (n : Nat) (L : List tm) (z : Int) (m i p : Nat) (sum : Int) : wyRd T n L z (m + 1) i p sum = (if ¬ (isNb T n p ∨ sgIs T n p 45) then .inl (1, p, i)
    else match L[i]? with
      | none => .inl (7, p, i)
      | some t => if ¬ isNb T n (whA T n p) then .inl (1, whA T n p, i)
        else if ¬ (t.2.2.1 ≤ whV T n p ∧ whV T n p ≤ t.2.2.2) then .inl (6, whA T n p, i)
        else if sgIs T n (nxT T n (whA T n p)) 44 then wyRd T n L z m (i + 1) (nxT T n (nxT T n (whA T n p))) (sum + tv t (whV T n p))
        else if sgIs T n (nxT T n (whA T n p)) 59 ∧ i + 1 < L.length then .inl (7, nxT T n (whA T n p), -1)
        else if sgIs T n (nxT T n (whA T n p)) 59 ∧ sum + tv t (whV T n p) ≠ z then .inl (8, nxT T n (whA T n p), -1)
        else .inr (nxT T n (whA T n p))) := rfl
theorem vl_bad {T : Nat → Int} {n : Nat} {L : List tm} {z sum w : Int} {m i p pl : Nat} (h : vlRd T n L i p = .inl (w, pl)) : wyRd T n L z (m + 1) i p sum = .inl (w, pl, i) := by
  unfold vlRd at h
  rw [wyRd_s]
  by_cases c1 : ¬ (isNb T n p ∨ sgIs T n p 45)
  · rw [if_pos c1] at h ⊢; cases h; rfl
  · rw [if_neg c1] at h ⊢
    cases e : L[i]? with
    | none => rw [e] at h; cases h; rfl
    | some t =>
      rw [e] at h
      simp only [] at h ⊢
      by_cases c2 : ¬ isNb T n (whA T n p)
      · rw [if_pos c2] at h ⊢; cases h; rfl
      · rw [if_neg c2] at h ⊢
        by_cases c3 : ¬ (t.2.2.1 ≤ whV T n p ∧ whV T n p ≤ t.2.2.2)
        · rw [if_pos c3] at h ⊢; cases h; rfl
        · rw [if_neg c3] at h; cases h
theorem vl_good {T : Nat → Int} {n : Nat} {L : List tm} {z sum v : Int} {m i p p' : Nat} (h : vlRd T n L i p = .inr (v, p')) : ∃ t, L[i]? = some t ∧ v = tv t (whV T n p) ∧ t.2.2.1 ≤ whV T n p ∧ whV T n p ≤ t.2.2.2 ∧ p' = nxT T n (whA T n p) ∧ wyRd T n L z (m + 1) i p sum = (if sgIs T n p' 44 then wyRd T n L z m (i + 1) (nxT T n p') (sum + v) else if sgIs T n p' 59 ∧ i + 1 < L.length then .inl (7, p', -1) else if sgIs T n p' 59 ∧ sum + v ≠ z then .inl (8, p', -1) else .inr p') := by
  unfold vlRd at h
  rw [wyRd_s]
  by_cases c1 : ¬ (isNb T n p ∨ sgIs T n p 45)
  · rw [if_pos c1] at h; cases h
  · rw [if_neg c1] at h ⊢
    cases e : L[i]? with
    | none => rw [e] at h; cases h
    | some t =>
      rw [e] at h
      simp only [] at h ⊢
      by_cases c2 : ¬ isNb T n (whA T n p)
      · rw [if_pos c2] at h; cases h
      · rw [if_neg c2] at h ⊢
        by_cases c3 : ¬ (t.2.2.1 ≤ whV T n p ∧ whV T n p ≤ t.2.2.2)
        · rw [if_pos c3] at h; cases h
        · rw [if_neg c3] at h ⊢
          cases h
          have c4 := Classical.not_not.mp c3
          exact ⟨t, rfl, rfl, c4.1, c4.2, rfl, rfl⟩
theorem c_ln131 {post : Unit → NM → Prop} {xp : Nat → List Nat → NM → Prop} {S : CS} {T : Nat → Int} {n x q : Nat} {d : Int32} {z : Int} {ts : List tm} (hT : cTape S T n) (hv : vF ts) (hz : -3000 ≤ z ∧ z ≤ 3000) : ∀ (m i p : Nat) (sum : Int) (N : NM) (b : Int32) (mc ms : Nat), i + m = 6 → p ≤ n → i ≤ ts.length → (-3000 * (i : Int) ≤ sum ∧ sum ≤ 3000 * (i : Int)) → cL K a S N → N x = some (rdr a p b d) → cF K N q ts → 6 * m + 10 ≤ mc → 48 * m + 80 ≤ ms → lwO a x d N (wyE T n (wyRd T n ts z m i p sum)) id post xp → wX2_line_131 K post xp (m + 1) x (some q) (iI z) (lI sum) (iI (i : Nat)) mc ms N := by
  have ht8 := hT.1
  have h5 := hv.1
  intro m
  induction m with
  | zero => intro i p sum N b mc ms h1 h2 h3; omega
  | succ m ih =>
    intro i p sum N b mc ms him hp hi hs hL hx hF hmc hms hO
    unfold wX2_line_131
    refine ⟨_, _, _, _, hx, 5, 40, by omega, by omega, c_rdVal hL hT hx hp hF hv (by omega) (by omega) (by omega) ⟨fun v p' hR N1 b1 k1 x1 => ?_, fun w pl hR N1 y f1 f2 f3 f4 g k1 d1 y0 hy fs hfs => ?_⟩⟩
    · obtain ⟨t, et, ev, v1, v2, ep, eR⟩ := vl_good (z := z) (sum := sum) (m := m) hR
      have hil := (List.getElem?_eq_some_iff.mp et).1
      have vt := hv.2 t (List.mem_of_getElem? et)
      have tvb := vt.2.2.2.2.2.2.2 _ v1 v2
      rw [← ev] at tvb
      have hA1 := (whA_le (T := T) hp).2
      have hp' : p' ≤ n := by rw [ep]; exact (nxT_le hA1).2
      have hL1 := hL.kx hx k1
      have hF1 := hF.kx hx k1
      have hO1 := hO.st k1 x1
      rw [eR] at hO1
      refine ⟨_, _, _, _, x1, ?_⟩
      rw [show (44 : Int32) = iI 44 from rfl]
      have e8 : iI (i : Int) + 1 = iI ((i + 1 : Nat) : Int) := by rw [show (1 : Int32) = iI 1 from rfl, iI_add]; rfl
      rw [lI_add, e8]
      refine c_passesS hL1 hT x1 hp' (by omega) (fun c1 c2 => b_f (by decide) ?_) (fun c => b_t rfl ?_)
      · have hs44 : sgIs T n p' 44 := (sgIs_iff (by decide)).2 ⟨c1, c2⟩
        rw [if_pos hs44, nxT_sg hs44] at hO1
        have k2 := (kx.refl x N1).at (some (rdr a (sk T n (p' + 1)) b1 d))
        exact ih (i + 1) _ (sum + v) _ b1 _ _ (by omega) (sk_le (by omega)).2 (by omega) (by omega) (hL1.rd x1 _) (up_eq _ _ _) (hF1.kx x1 k2) (by omega) (by omega) (hO1.st k2 (up_eq _ _ _))
      · have hs44 : ¬ sgIs T n p' 44 := fun z => c ((sgIs_iff (by decide)).1 z)
        rw [if_neg hs44] at hO1
        have c234 : ∀ (ok : Int32) (mc ms : Nat), 1 ≤ mc → 8 ≤ ms → (ok = 0 → wyE T n (if sgIs T n p' 59 ∧ i + 1 < ts.length then .inl (7, p', -1) else if sgIs T n p' 59 ∧ sum + v ≠ z then .inl (8, p', -1) else .inr p') = .inl (8, p', -1)) → (ok ≠ 0 → wyE T n (if sgIs T n p' 59 ∧ i + 1 < ts.length then .inl (7, p', -1) else if sgIs T n p' 59 ∧ sum + v ≠ z then .inl (8, p', -1) else .inr p') = .inr p') → wX2_line_234 K post xp x ok x mc ms N1 := by
          intro ok mc ms hmc hms e0 e1
          unfold wX2_line_234
          exact ⟨_, _, _, _, x1, _, _, _, _, x1, 1, 8, by omega, by omega, c_mustE 8 (p' : Nat) rfl rfl (by omega) (by omega) (fun e => hO1.1 p' (e1 e) N1 b1 (kx.refl x N1) x1) (fun e q f1 f2 f3 f4 g hq fs hfs => hO1.bad (e0 e) hq)⟩
        have c187 : ∀ (ok : Int32) (mc ms : Nat), 3 ≤ mc → 24 ≤ ms → (ok = 0 ↔ ¬ sgIs T n p' 59) → wX2_line_187 K post xp x (some q) (iI z) (lI (sum + v)) (iI ((i + 1 : Nat) : Int)) ok x mc ms N1 := by
          intro ok mc ms hmc hms hok
          unfold wX2_line_187
          refine ⟨_, _, _, _, x1, _, _, _, _, x1, 1, 8, by omega, by omega, c_mustE 1 (p' : Nat) rfl rfl (by omega) (by omega) (fun e => ?_) (fun e q f1 f2 f3 f4 g hq fs hfs => hO1.bad (by
            have c59 := hok.1 e
            rw [if_neg (fun z => c59 z.1), if_neg (fun z => c59 z.1)]; unfold wyE; simp only []; rw [if_pos c59]) hq)⟩
          have c59 : sgIs T n p' 59 := Classical.byContradiction (fun c => e (hok.2 c))
          have hF2 := hF1
          obtain ⟨y, f, f1, f2, f3⟩ := hF1
          refine ⟨q, rfl, _, f1, c_many0 hF2 ?_⟩
          rw [iI_eq (by omega) (by omega) (by omega) (by omega)]
          refine ⟨fun cl => ?_, fun cl => ?_⟩
          · unfold wX2_line_210
            refine ⟨_, _, _, _, x1, _, _, _, _, x1, 1, 8, by omega, by omega, c_mustE 7 (p' : Nat) rfl rfl (by omega) (by omega) (fun _ => ?_) (fun e => absurd e (by decide))⟩
            rw [iI_l (by omega) (by omega), lI_eq (by omega) (by omega) (by omega) (by omega)]
            refine ⟨fun c => c234 1 _ _ (by omega) (by omega) (fun e => absurd e (by decide)) (fun _ => ?_), fun c => c234 0 _ _ (by omega) (by omega) (fun _ => ?_) (fun e => absurd rfl e)⟩
            · rw [if_neg (fun z => by omega), if_neg (fun z => z.2 c)]; unfold wyE; simp only []; rw [if_neg (fun z => z c59)]
            · rw [if_neg (fun z => by omega), if_pos ⟨c59, c⟩]; rfl
          · unfold wX2_line_210
            exact ⟨_, _, _, _, x1, _, _, _, _, x1, 1, 8, by omega, by omega, c_mustE 7 (p' : Nat) rfl rfl (by omega) (by omega) (fun e => absurd rfl e) (fun _ q f1 f2 f3 f4 g hq fs hfs => hO1.bad (by rw [if_pos ⟨c59, by omega⟩]; rfl) hq)⟩
        have hcc := hT.sg p'
        refine ⟨_, _, _, _, x1, c_here hL1 hT x1 (by omega) ?_⟩
        have e59 : chr T n p' = 59 ↔ sgIs T n p' 59 := by
          rw [sgIs_iff (by decide)]
          unfold chr
          by_cases c : p' < n
          · rw [if_pos c]; exact ⟨fun e => ⟨c, e⟩, fun e => e.2⟩
          · rw [if_neg c]; exact ⟨fun e => by omega, fun e => absurd e.1 c⟩
        rw [show (59 : Int32) = iI 59 from rfl, iI_eq (by omega) (by omega) (by omega) (by omega), e59]
        exact ⟨fun c => c187 1 _ _ (by omega) (by omega) ⟨fun e => absurd e (by decide), fun e => absurd c e⟩, fun c => c187 0 _ _ (by omega) (by omega) ⟨fun _ => c, fun _ => rfl⟩⟩
    · have eW := vl_bad (z := z) (sum := sum) (m := m) hR
      refine c_wrapI rfl hy (by omega) (by omega) (fun N2 y2 n2 d2 y20 hy2 hy3 => ?_)
      refine hO.2 w pl i (by rw [eW]; rfl) N2 y2 [y2, y] (k1.trans n2.kx) (d1.tr d2) (Or.inr ⟨y, f1, f2, f3, f4, g, rfl, d1.no y20, y0, hy2, hy3⟩)
end
