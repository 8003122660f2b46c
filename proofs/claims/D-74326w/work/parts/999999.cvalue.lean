set_option maxRecDepth 100000
set_option maxHeartbeats 4000000
/-! the component reads a value of a proof -/
/-- a value from p on: a fault and its place, or the value and the place behind it -/
def vlRd (T : Nat → Int) (n : Nat) (L : List tm) (i p : Nat) : (Int × Nat) ⊕ (Int × Nat) :=
  if ¬ (isNb T n p ∨ sgIs T n p 45) then .inl (1, p)
  else match L[i]? with
    | none => .inl (7, p)
    | some t => if ¬ isNb T n (whA T n p) then .inl (1, whA T n p)
      else if ¬ (t.2.2.1 ≤ whV T n p ∧ whV T n p ≤ t.2.2.2) then .inl (6, whA T n p)
      else .inr (tv t (whV T n p), nxT T n (whA T n p))
/-- what a reading leaves: a result by the place, or a fault -/
def rdO {α : Type} (a : Nat → Nat) (x : Nat) (d : Int32) (N : NM) (R : (Int × Nat) ⊕ (α × Nat)) (good : α → NM → Prop) (xp : Nat → List Nat → NM → Prop) : Prop :=
  (∀ v p', R = .inr (v, p') → ∀ N' b', kx x N N' → N' x = some (rdr a p' b' d) → good v N') ∧
  (∀ w q, R = .inl (w, q) → ∀ N' y f1 f2 f3 f4 g, kx x N N' → dm N N' → N y = none → N' y = some (oWr f1 f2 f3 f4 g w (q : Nat)) → xp y [y] N')
section
variable {K : Nat → Nat → Nat} {a : Nat → Nat}
theorem rdO.st {α : Type} {x : Nat} {d : Int32} {N N1 : NM} {R : (Int × Nat) ⊕ (α × Nat)} {good : α → NM → Prop} {xp : Nat → List Nat → NM → Prop} {e : NE} (h : rdO a x d N R good xp) (hk : kx x N N1) (hx : N1 x = some e) : rdO a x d N1 R good xp :=
  ⟨fun v p' hR N' b' k1 k2 => h.1 v p' hR N' b' (hk.trans k1) k2, fun w q hR N' y f1 f2 f3 f4 g k1 k2 k3 k4 => h.2 w q hR N' y f1 f2 f3 f4 g (hk.trans k1) ((hk.dm hx).tr k2) (hk.none hx k3) k4⟩
theorem rdO.bad {α : Type} {x : Nat} {d : Int32} {N : NM} {R : (Int × Nat) ⊕ (α × Nat)} {good : α → NM → Prop} {xp : Nat → List Nat → NM → Prop} {w : Int} {q : Nat} (h : rdO a x d N R good xp) (hR : R = .inl (w, q)) {y : Nat} {f1 f2 f3 f4 : Option Nat} {g : Int32} (hy : N y = none) : xp y [y] (va_up N y (some (oWr f1 f2 f3 f4 g w (q : Nat)))) :=
  h.2 w q hR _ y f1 f2 f3 f4 g ((kx.refl x N).new hy _) ((dm.rf N).up y _) hy (up_eq _ _ _)
theorem rdO.bad' {α : Type} {x : Nat} {d : Int32} {N : NM} {R : (Int × Nat) ⊕ (α × Nat)} {good : α → NM → Prop} {xp : Nat → List Nat → NM → Prop} {w : Int} {q : Nat} (h : rdO a x d N R good xp) (hR : R = .inl (w, q)) {e : NE} {y : Nat} {f1 f2 f3 f4 : Option Nat} {g : Int32} (hy : N y = none) : xp y [y] (va_up (va_up N x (some e)) y (some (oWr f1 f2 f3 f4 g w (q : Nat)))) :=
  h.2 w q hR _ y f1 f2 f3 f4 g (((kx.refl x N).at _).new hy _) (((dm.rf N).up x _).up y _) hy (up_eq _ _ _)
theorem cF.kx {N N' : NM} {q x p : Nat} {b d : Int32} {ts : List tm} (h : cF K N q ts) (hx : N x = some (rdr a p b d)) (hk : kx x N N') : cF K N' q ts := by
  obtain ⟨y, f, h1, h2, h3⟩ := h
  refine ⟨y, f, hk _ _ h1 (fun c => by rw [c, hx] at h1; cases h1), hk _ _ h2 (fun c => by rw [c, hx] at h2; cases h2), fun i t ht => ?_⟩
  obtain ⟨z, z1, z2⟩ := h3 i t ht
  exact ⟨z, z1, hk _ _ z2 (fun c => by rw [c, hx] at z2; cases z2)⟩
theorem c_rdVal {post : Int64 → NM → Prop} {xp : Nat → List Nat → NM → Prop} {S : CS} {N : NM} {T : Nat → Int} {n p x q i MC MS : Nat} {b d : Int32} {ts : List tm} (hL : cL K a S N) (hT : cTape S T n) (hx : N x = some (rdr a p b d)) (hp : p ≤ n) (hF : cF K N q ts) (hv : vF ts) (hi : i ≤ 6) (hMC : 5 ≤ MC) (hMS : 40 ≤ MS) (hO : rdO a x d N (vlRd T n ts i p) (fun v N' => post (lI v) N') xp) : wX2_value K post xp MC MS N x (some q) (iI (i : Nat)) := by
  have ht8 := hT.1
  have h5 := hv.1
  have s45 : sgIs T n p 45 ↔ p < n ∧ T p = 45 := sgIs_iff (by decide)
  have c54 : ∀ (ok : Int32) (mc ms : Nat) (N : NM) (A p6 : Nat) (V : Int), N x = some (rdr a p6 (iI (A : Nat)) d) → cF K N q ts → -10000 < V ∧ V < 10000 → 2 ≤ mc → 16 ≤ ms → (ok = 0 ↔ ts[i]? = none) → rdO a x d N (match ts[i]? with | none => .inl (7, p) | some t => if ¬ (t.2.2.1 ≤ V ∧ V ≤ t.2.2.2) then .inl (6, A) else .inr (tv t V, p6)) (fun v N' => post (lI v) N') xp → wX2_value_54 K post xp x (some q) (iI (i : Nat)) (iI (p : Nat)) (iI V) ok x mc ms N := by
    intro ok mc ms N A p6 V hx hF hV hmc hms hok hO
    unfold wX2_value_54
    refine ⟨_, _, _, _, hx, 1, 8, by omega, by omega, c_mustE 7 (p : Nat) rfl rfl (by omega) (by omega) (fun e => ?_) (fun e q f1 f2 f3 f4 g hq fs hfs => hO.bad (by rw [hok.1 e]) hq)⟩
    obtain ⟨t, et⟩ : ∃ t, ts[i]? = some t := by
      cases c : ts[i]? with
      | none => exact absurd (hok.2 c) e
      | some t => exact ⟨t, rfl⟩
    rw [et] at hO
    have hil := (List.getElem?_eq_some_iff.mp et).1
    have vt := hv.2 t (List.mem_of_getElem? et)
    have lo := vt.lo
    have v4 := vt.2.2.2
    have hF0 := hF
    obtain ⟨y, f, f1, f2, f3⟩ := hF
    obtain ⟨z, z1, z2⟩ := f3 i t et
    have hin : vp_in (iI (i : Nat)) ts.length := iI_in (by omega) (by omega) (by omega)
    have b1 := vt.2.2.2.2.2.1
    have b2 := vt.2.2.2.2.2.2.1
    have b3 := vt.2.2.2.2.1
    refine ⟨q, rfl, _, f1, y, rfl, _, _, f2, hin, z, by rw [nat_i (by omega)]; exact z1, _, _, _, _, z2, hin, ?_⟩
    rw [iI_l (by omega) (by omega), iI_l (by omega) (by omega), iI_l (by omega) (by omega)]
    refine c_isIn (by unfold i64; omega) (by unfold i64; omega) (by unfold i64; omega) (fun s1 s2 => ⟨_, _, _, _, hx, 1, 8, by omega, by omega, c_mustE 6 (A : Nat) rfl rfl (by omega) (by omega) (fun _ => ?_) (fun e => absurd e (by decide))⟩) (fun s => ⟨_, _, _, _, hx, 1, 8, by omega, by omega, c_mustE 6 (A : Nat) rfl rfl (by omega) (by omega) (fun e => absurd rfl e) (fun _ q f1 f2 f3 f4 g hq fs hfs => hO.bad (by simp only []; rw [if_pos s]) hq)⟩)
    refine ⟨_, f1, y, rfl, _, _, f2, hin, z, by rw [nat_i (by omega)]; exact z1, _, _, _, _, z2, c_value vt z2 (by omega) (by omega) ?_⟩
    exact hO.1 _ _ (by simp only []; rw [if_neg (fun c => c ⟨s1, s2⟩)]) N _ (kx.refl x N) hx
  have c28 : ∀ (ok : Int32) (mc ms : Nat), 5 ≤ mc → 40 ≤ ms → (ok = 0 ↔ sgIs T n p 45 ∧ ts[i]? = none) → wX2_value_28 K post xp x (some q) (iI (i : Nat)) (iI (p : Nat)) ok x mc ms N := by
    intro ok mc ms hmc hms hok
    unfold wX2_value_28
    refine ⟨_, _, _, _, hx, 1, 8, by omega, by omega, c_mustE 7 (p : Nat) rfl rfl (by omega) (by omega) (fun e => ?_) (fun e q f1 f2 f3 f4 g hq fs hfs => hO.bad (by unfold vlRd; rw [if_neg (fun c => c (Or.inr (hok.1 e).1)), (hok.1 e).2]) hq)⟩
    refine ⟨_, _, _, _, hx, 2, 16, by omega, by omega, c_whole hL hT hx hp (by omega) (by omega) (fun hb => ?_) (fun hb e' y f1 f2 f3 f4 g hy fs hfs => hO.bad' ?_ hy)⟩
    · have x1 := up_eq N x (some (rdr a (nxT T n (whA T n p)) (iI ((whA T n p : Nat) : Int)) d))
      have hF1 := hF.kx hx ((kx.refl x N).at (some (rdr a (nxT T n (whA T n p)) (iI ((whA T n p : Nat) : Int)) d)))
      have hO1 := hO.st ((kx.refl x N).at (some (rdr a (nxT T n (whA T n p)) (iI ((whA T n p : Nat) : Int)) d))) x1
      have hB : isNb T n p ∨ sgIs T n p 45 := by
        by_cases c : sgIs T n p 45
        · exact Or.inr c
        · unfold whA at hb; rw [if_neg c] at hb; exact Or.inl hb
      obtain ⟨y, f, f1, f2, f3⟩ := hF1
      have hO2 : rdO a x d (va_up N x (some (rdr a (nxT T n (whA T n p)) (iI ((whA T n p : Nat) : Int)) d))) (match ts[i]? with | none => .inl (7, p) | some t => if ¬ (t.2.2.1 ≤ whV T n p ∧ whV T n p ≤ t.2.2.2) then .inl (6, whA T n p) else .inr (tv t (whV T n p), nxT T n (whA T n p))) (fun v N' => post (lI v) N') xp := by
        unfold vlRd at hO1
        rw [if_neg (fun c => c hB)] at hO1
        cases et : ts[i]? with
        | none => rw [et] at hO1; exact hO1
        | some t => rw [et] at hO1; simp only [] at hO1 ⊢; rw [if_neg (fun c => c hb)] at hO1; exact hO1
      refine ⟨q, rfl, _, f1, c_many0 ⟨y, f, f1, f2, f3⟩ ?_⟩
      rw [iI_le (by omega) (by omega) (by omega) (by omega)]
      refine ⟨fun c => c54 0 _ _ _ _ _ _ x1 ⟨y, f, f1, f2, f3⟩ whV_in (by omega) (by omega) ⟨fun _ => List.getElem?_eq_none (by omega), fun _ => rfl⟩ hO2, fun c => c54 1 _ _ _ _ _ _ x1 ⟨y, f, f1, f2, f3⟩ whV_in (by omega) (by omega) ⟨fun e => absurd e (by decide), fun e => ?_⟩ hO2⟩
      rw [List.getElem?_eq_none_iff] at e; omega
    · unfold vlRd
      by_cases c : sgIs T n p 45
      · rw [if_neg (fun z => z (Or.inr c))]
        cases et : ts[i]? with
        | none => exact absurd (hok.2 ⟨c, et⟩) e
        | some t => simp only []; rw [if_pos hb]
      · have ew : whA T n p = p := by unfold whA; rw [if_neg c]
        rw [ew] at hb ⊢
        rw [if_pos (fun z => z.elim hb c)]
  have hcc := hT.sg p
  have e45 : chr T n p = 45 ↔ sgIs T n p 45 := by
    rw [s45]
    unfold chr
    by_cases c : p < n
    · rw [if_pos c]; exact ⟨fun e => ⟨c, e⟩, fun e => e.2⟩
    · rw [if_neg c]; exact ⟨fun e => by omega, fun e => absurd e.1 c⟩
  unfold wX2_value
  refine ⟨_, _, _, _, hx, c_here hL hT hx (by omega) ?_⟩
  rw [show (45 : Int32) = iI 45 from rfl, iI_eq (by omega) (by omega) (by omega) (by omega), e45]
  refine ⟨fun c => ?_, fun c => ?_⟩
  · have hF0 := hF
    obtain ⟨y, f, f1, f2, f3⟩ := hF
    refine ⟨q, rfl, _, f1, c_many0 hF0 ?_⟩
    rw [iI_le (by omega) (by omega) (by omega) (by omega)]
    refine ⟨fun c2 => c28 0 MC MS hMC hMS ⟨fun _ => ⟨c, List.getElem?_eq_none (by omega)⟩, fun _ => rfl⟩, fun c2 => ?_⟩
    unfold wX2_value_23
    exact c28 1 MC MS hMC hMS ⟨fun e => absurd e (by decide), fun e => absurd e.2 (by rw [List.getElem?_eq_none_iff]; omega)⟩
  · unfold wX2_value_23
    exact c28 1 MC MS hMC hMS ⟨fun e => absurd e (by decide), fun e => absurd e.1 c⟩
end
