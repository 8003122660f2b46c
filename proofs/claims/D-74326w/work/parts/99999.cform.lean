set_option maxRecDepth 100000
set_option maxHeartbeats 4000000
/-! the component reads a form -/
/-- what a reading of a form leaves -/
def fmP (K : Nat → Nat → Nat) (x : Nat) (N0 : NM) (R : (Int × Nat × Nat) ⊕ List tm) (post : Option Nat → NM → Prop) (xp : Nat → List Nat → NM → Prop) : Prop :=
  (∀ ts, R = .inr ts → ∀ N' q, kx x N0 N' → N0 q = none → cF K N' q ts → post (some q) N') ∧
  (∀ w pl o, R = .inl (w, pl, o) → ∀ N' q r f1 f2 f3 f4 g, kx x N0 N' → N0 q = none → N0 r = none → N' q = some (oOu r (o : Nat)) → N' r = some (oWr f1 f2 f3 f4 g w (pl : Nat)) → xp q [q, r] N')
section
variable {K : Nat → Nat → Nat} {a : Nat → Nat}
/-- terms by their places -/
def tmsAt (K : Nat → Nat → Nat) (N : NM) (ys : List Nat) (ts : List tm) : Prop := ys.length = ts.length ∧ ∀ (i : Nat) (t : tm), ts[i]? = some t → ∃ y, ys[i]? = some y ∧ N y = some (oTm K t)
theorem tmsAt.of {N N' : NM} {ys : List Nat} {ts : List tm} (h : tmsAt K N ys ts) (hk : ∀ y t, N y = some (oTm K t) → N' y = some (oTm K t)) : tmsAt K N' ys ts := ⟨h.1, fun i t ht => by
  obtain ⟨y, y1, y2⟩ := h.2 i t ht
  exact ⟨y, y1, hk y t y2⟩⟩
theorem tmsAt.snoc {N : NM} {ys : List Nat} {ts : List tm} {y : Nat} {t : tm} (h : tmsAt K N ys ts) (hy : N y = some (oTm K t)) : tmsAt K N (ys ++ [y]) (ts ++ [t]) := by
  refine ⟨by rw [List.length_append, List.length_append, h.1]; rfl, fun i u hu => ?_⟩
  by_cases c : i < ts.length
  · rw [List.getElem?_append_left c] at hu
    obtain ⟨z, z1, z2⟩ := h.2 i u hu
    exact ⟨z, by rw [List.getElem?_append_left (by rw [h.1]; exact c)]; exact z1, z2⟩
  · have hi' := (List.getElem?_eq_some_iff.mp hu).1
    rw [List.length_append, List.length_singleton] at hi'
    have ei : i = ts.length := by omega
    rw [ei, List.getElem?_append_right (Nat.le_refl _), Nat.sub_self] at hu
    cases hu
    exact ⟨y, by rw [ei, ← h.1, List.getElem?_append_right (Nat.le_refl _), Nat.sub_self]; rfl, hy⟩
theorem c_row74 {post : Option Nat → NM → Prop} {xp : Nat → List Nat → NM → Prop} {N0 N1 : NM} {l q x p mc ms : Nat} {ys : List Nat} {ts : List tm} {b d : Int32} (hA : aI K N0 N1 l ys) (hts : tmsAt K N1 ys ts) (hl : ts.length ≤ 5) (hq : N1 q = none) (hk : kx x N0 N1) (hx : N1 x = some (rdr a p b d)) (hmc : 1 ≤ mc) (hms : 1 ≤ ms) (h : ∀ N' r, kx x N0 N' → N0 r = none → cF K N' r ts → post (some r) N') : ∀ (m j : Nat) (f : Nat → Option Nat), j + m = ts.length → (∀ i y, i < j → ys[i]? = some y → f i = some y) → wX2_form_74 K post xp (m + 1) l q (iI (j : Nat)) mc ms (va_up N1 q (some (eR 5 ts.length f))) := by
  intro m
  induction m with
  | zero =>
    intro j f hj hf
    unfold wX2_form_74
    refine ⟨_, _, up_eq _ _ _, ?_⟩
    rw [nI_i, iI_le (by omega) (by omega) (by omega) (by omega)]
    refine b_t (by omega) ⟨hmc, hms, fun r hr N88 e88 => ?_⟩
    unfold wX6_init
    refine ⟨_, at_up e88, fun N3 e3 => ?_⟩
    rw [e88, up_up] at e3
    have rq : r ≠ q := fun c => by rw [c, up_eq] at hr; cases hr
    have r0 : N1 r = none := by rw [up_ne _ _ _ rq] at hr; exact hr
    have k1 : nw N1 N3 := by rw [e3]; exact ((nw.refl N1).new hq _).new r0 _
    refine h N3 r (hk.trans k1.kx) (hk.none hx r0) ⟨q, f, at_up e3, by rw [e3, up_ne _ _ _ (Ne.symm rq)]; exact up_eq _ _ _, fun i t ht => ?_⟩
    obtain ⟨y, y1, y2⟩ := hts.2 i t ht
    have := (List.getElem?_eq_some_iff.mp ht).1
    exact ⟨y, hf i y (by omega) y1, k1 _ _ y2⟩
  | succ m ih =>
    intro j f hj hf
    have hlen := hts.1
    obtain ⟨t, ht⟩ : ∃ t, ts[j]? = some t := ⟨_, List.getElem?_eq_getElem (by omega)⟩
    obtain ⟨y, y1, y2⟩ := hts.2 j t ht
    have n1 := (nw.refl N1).new hq (eR 5 ts.length f)
    have hA' := hA.kx hx n1.kx
    unfold wX2_form_74
    refine ⟨_, _, up_eq _ _ _, ?_⟩
    rw [nI_i, iI_le (by omega) (by omega) (by omega) (by omega)]
    refine b_f (by omega) (c_alGet hA' (by omega) y1 ⟨y, rfl, _, _, _, _, n1 _ _ y2, _, _, up_eq _ _ _, iI_in (by omega) (by omega) (by omega), fun N110 e110 => ?_⟩)
    rw [up_up, nat_i (by omega)] at e110
    rw [e110, show iI (j : Int) + 1 = iI ((j + 1 : Nat) : Int) by rw [show (1 : Int32) = iI 1 from rfl, iI_add]; rfl]
    refine ih (j + 1) _ (by omega) (fun i z hi hz => ?_)
    by_cases c : i = j
    · rw [c] at hz ⊢
      rw [y1] at hz; cases hz
      exact up_eq _ _ _
    · rw [up_ne _ _ _ c]; exact hf i z (by omega) hz
/-- a fault is handed on, wrapped -/
theorem c_wrap {xp : Nat → List Nat → NM → Prop} {N0 N : NM} {x q mc ms : Nat} {f1 f2 f3 f4 : Option Nat} {g : Int32} {w pl : Int} {o : Int} {ov : Int32} (eo : ov = iI o) (hk : kx x N0 N) (hq0 : N0 q = none) (hd : dm N0 N) (hq : N q = some (oWr f1 f2 f3 f4 g w pl)) (hmc : 1 ≤ mc) (hms : 7 ≤ ms) (h : ∀ N' y, kx x N0 N' → N0 y = none → N' y = some (oOu q o) → N' q = some (oWr f1 f2 f3 f4 g w pl) → xp y [y, q] N') : 1 ≤ mc ∧ 7 ≤ ms ∧ (∀ nq30, N nq30 = none → (∀ N32, N32 = va_up N nq30 (some (eO 5 [va_rf none, va_rf none, va_rf none, va_rf none, va_rf none, .int (0 : Int32), .int (0 : Int32)])) → (wX5_init K (fun _ N36 => ∃ f38 f39 f40 f41 f42 f43 f44, N36 nq30 = some (eO 5 [va_rf f38, va_rf f39, va_rf f40, va_rf f41, va_rf f42, .int f43, .int f44]) ∧ (xp nq30 (nq30 :: [q]) N36)) N32 nq30 ov (some q)))) := by
  subst eo
  refine ⟨hmc, hms, fun y hy N32 e32 => c_outer (at_up e32) ?_⟩
  rw [e32, up_up]
  have qy : q ≠ y := fun c => by rw [c, hy] at hq; cases hq
  exact ⟨_, _, _, _, _, _, _, up_eq _ _ _, h _ y (hk.new (hd.no hy) _) (hd.no hy) (up_eq _ _ _) (by rw [up_ne _ _ _ qy]; exact hq)⟩
theorem aI.obj {N0 N : NM} {l : Nat} {ys : List Nat} (h : aI K N0 N l ys) : ∃ (m : Int32) (f : Option Nat) (s : Int32), N l = some (eO 18 [.int m, va_rf f, .int s]) := by
  rcases h.2 with ⟨e, m, h1⟩ | ⟨m, v, f, v0, h1, h2, h3⟩
  · exact ⟨_, _, _, h1⟩
  · exact ⟨_, _, _, h1⟩
theorem c_fm20s {post : Option Nat → NM → Prop} {xp : Nat → List Nat → NM → Prop} {S : CS} {N0 N : NM} {T : Nat → Int} {n x l p0 m p mc ms : Nat} {b0 d0 b d : Int32} {ts : List tm} {ys : List Nat} (hT : cTape S T n) (hL0 : cL K a S N0) (hx0 : N0 x = some (rdr a p0 b0 d0)) (hm : ts.length + m = 5) (h1 : 1 ≤ ts.length) (hp : p ≤ n) (hx : N x = some (rdr a p b d)) (hk : kx x N0 N) (hA : aI K N0 N l ys) (hts : tmsAt K N ys ts) (hmc : 80 ≤ mc) (hms : 680 ≤ ms)
    (hO : fmP K x N0 (if srt T n p = 0 then .inr ts else if ¬ sgIs T n p 43 then .inl (1, p, ts.length - 1) else fmRd T n (m + 1) (sk T n (p + 1)) ts) post xp)
    (nx : ∀ t p' N' ys' b' mc' ms', tmRd T n (sk T n (p + 1)) ts.length = .inr (t, p') → p' ≤ n → N' x = some (rdr a p' b' d) → kx x N0 N' → aI K N0 N' l ys' → tmsAt K N' ys' (ts ++ [t]) → mc ≤ mc' + 75 → ms ≤ ms' + 660 → fmP K x N0 (fmRd T n (m + 1) (sk T n (p + 1)) ts) post xp → wX2_form_20 K post xp m x l (iI (ts.length : Nat)) mc' ms' N') : wX2_form_20 K post xp (m + 1) x l (iI ((ts.length - 1 : Nat) : Int)) mc ms N := by
  have ht8 := hT.1
  have hL := hL0.kx hx0 hk
  have hlen := hts.1
  unfold wX2_form_20
  refine ⟨_, _, _, _, hx, c_isOver hL hT hx (by omega) (fun c => b_f (by decide) ?_) (fun c => b_t rfl ?_)⟩
  · rw [if_pos (by unfold srt; rw [if_pos c])] at hO
    refine c_alSize hA (fun m' f' hl' => ?_)
    rw [nat_i (by omega), show (0 : Int32) = iI 0 from rfl, iI_lt (by omega) (by omega) (by omega) (by omega), hlen]
    refine ⟨by omega, by omega, by omega, by omega, fun q hq N77 e77 => ⟨ts.length + 1, ?_⟩⟩
    rw [e77]
    exact c_row74 hA hts (by omega) hq hk hx (by omega) (by omega) (hO.1 ts rfl) ts.length 0 _ (by omega) (fun i y hi => absurd hi (by omega))
  · have s0 : ¬ srt T n p = 0 := by
      unfold srt; rw [if_neg (by omega)]; split
      · omega
      · split <;> omega
    rw [if_neg s0] at hO
    refine ⟨_, _, _, _, hx, 1, 8, by omega, by omega, ?_⟩
    rw [show (43 : Int32) = iI 43 from rfl]
    refine c_asks hL hT hx hp (by omega) (by omega) (by omega) (fun c1 c2 => ?_) (fun c2 q f1 f2 f3 f4 g hq fs hfs => ?_)
    · rw [if_neg (fun z => z ((sgIs_iff (by decide)).2 ⟨c1, c2⟩))] at hO
      have k1 := hk.at (some (rdr a (sk T n (p + 1)) b d))
      have x1 := up_eq N x (some (rdr a (sk T n (p + 1)) b d))
      have hL1 := hL0.kx hx0 k1
      have hA1 := hA.kx hx ((kx.refl x N).at (some (rdr a (sk T n (p + 1)) b d)))
      have hts1 : tmsAt K (va_up N x (some (rdr a (sk T n (p + 1)) b d))) ys ts := hts.of (fun y t hy => by
        rw [up_ne _ _ _ (fun c => by rw [c, hx] at hy; cases hy)]; exact hy)
      obtain ⟨N1, eN1⟩ : ∃ N1, N1 = va_up N x (some (rdr a (sk T n (p + 1)) b d)) := ⟨_, rfl⟩
      rw [← eN1] at k1 x1 hL1 hA1 hts1 ⊢
      have hsk := sk_le (T := T) (n := n) (p := p + 1) (by omega)
      have e1 : iI ((ts.length - 1 : Nat) : Int) + 1 = iI (ts.length : Nat) := by
        rw [show (1 : Int32) = iI 1 from rfl, iI_add, show ((ts.length - 1 : Nat) : Int) + 1 = (ts.length : Nat) by omega]
      rw [e1]
      refine ⟨_, _, _, _, x1, 70, 640, by omega, by omega, c_rdTerm hL1 hT x1 hsk.2 (by omega) (by omega) (by omega) ⟨fun t p' hR N2 y b' q1 q2 q3 q4 => ?_, fun w pl hR N2 y f1 f2 f3 f4 g q1 q2 q3 q4 fs hfs => ?_⟩⟩
      · have hA2 := hA1.kx x1 q1
        have hts2 := (hts1.of (N' := N2) (fun y t hy => q1 _ _ hy (fun c => by rw [c, x1] at hy; cases hy))).snoc q4
        obtain ⟨o1, o2, o3, o4⟩ := hA2.obj
        refine ⟨y, rfl, o1, o2, o3, o4, 1, 10, by omega, by omega, c_alAdd hA2 ((k1.trans q1).dm q2) (by omega) q4 (by omega) (by omega) (fun N3 hA3 keep => ?_)⟩
        refine nx t p' N3 (ys ++ [y]) b' _ _ hR (tmRd_le hsk.2 hR).2 (keep x _ q2 (Or.inr rfl)) (fun z e hz zx => keep z e ((k1.trans q1) z e hz zx) (Or.inl (by rw [hz]; exact fun c => nomatch c))) hA3 (hts2.of (fun y t hy => keep y _ hy (Or.inr rfl))) (by omega) (by omega) hO
      · exact c_wrap rfl (k1.trans q1) (k1.none x1 q3) ((k1.dm x1).tr q2) q4 (by omega) (by omega) (fun N' y' k1' k2' k3' k4' => hO.2 w pl ts.length (by unfold fmRd; rw [hR]) N' y' y f1 f2 f3 f4 g k1' k2' (k1.none x1 q3) k3' k4')
    · have hq0 := hk.none hx hq
      exact c_wrap rfl (hk.new hq0 _) hq0 ((hk.dm hx).up q _) (up_eq _ _ _) (by omega) (by omega) (fun N' y k1 k2 k3 k4 => hO.2 1 p (ts.length - 1) (by rw [if_pos (fun z => c2 ((sgIs_iff (by decide)).1 z))]) N' y q f1 f2 f3 f4 g k1 k2 hq0 k3 k4)
theorem c_fm20 {post : Option Nat → NM → Prop} {xp : Nat → List Nat → NM → Prop} {S : CS} {N0 : NM} {T : Nat → Int} {n x l p0 : Nat} {b0 d0 d : Int32} (hT : cTape S T n) (hL0 : cL K a S N0) (hx0 : N0 x = some (rdr a p0 b0 d0)) : ∀ (m p mc ms : Nat) (ts : List tm) (ys : List Nat) (N : NM) (b : Int32), ts.length + m = 5 → 1 ≤ ts.length → p ≤ n → N x = some (rdr a p b d) → kx x N0 N → aI K N0 N l ys → tmsAt K N ys ts → 75 * m + 80 ≤ mc → 660 * m + 680 ≤ ms →
    fmP K x N0 (if srt T n p = 0 then .inr ts else if ¬ sgIs T n p 43 then .inl (1, p, ts.length - 1) else fmRd T n (m + 1) (sk T n (p + 1)) ts) post xp → wX2_form_20 K post xp (m + 1) x l (iI ((ts.length - 1 : Nat) : Int)) mc ms N := by
  intro m
  induction m with
  | zero =>
    intro p mc ms ts ys N b hm h1 hp hx hk hA hts hmc hms hO
    exact c_fm20s hT hL0 hx0 hm h1 hp hx hk hA hts (by omega) (by omega) hO (fun t p' N' ys' b' mc' ms' ht => by
      obtain ⟨k, q, e⟩ := tmRd_5 (T := T) (n := n) (p := sk T n (p + 1))
      rw [show ts.length = 5 by omega, e] at ht; cases ht)
  | succ m ih =>
    intro p mc ms ts ys N b hm h1 hp hx hk hA hts hmc hms hO
    refine c_fm20s hT hL0 hx0 hm h1 hp hx hk hA hts (by omega) (by omega) hO (fun t p' N' ys' b' mc' ms' ht q1 q2 q3 q4 q5 q6 q7 hO' => ?_)
    have e : (ts ++ [t]).length - 1 = ts.length := by rw [List.length_append, List.length_singleton]; omega
    have := ih p' mc' ms' (ts ++ [t]) ys' N' b' (by rw [List.length_append, List.length_singleton]; omega) (by rw [List.length_append, List.length_singleton]; omega) q1 q2 q3 q4 q5 (by omega) (by omega) (by
      rw [e]
      unfold fmRd at hO'
      rw [ht] at hO'
      exact hO')
    rw [e] at this
    exact this
/-- a form is read -/
theorem c_rdForm {post : Option Nat → NM → Prop} {xp : Nat → List Nat → NM → Prop} {S : CS} {N : NM} {T : Nat → Int} {n x p MC MS : Nat} {b d : Int32} (hT : cTape S T n) (hL : cL K a S N) (hx : N x = some (rdr a p b d)) (hp : p ≤ n) (hMC : 500 ≤ MC) (hMS : 5000 ≤ MS) (hO : fmP K x N (fmRd T n 6 p []) post xp) : wX2_form K post xp MC MS N x := by
  unfold wX2_form
  refine ⟨by omega, by omega, fun l hl N5 e5 => c_alNew (at_up e5) ?_⟩
  rw [e5, up_up]
  have n1 := (nw.refl N).new hl (eO 18 [.int 0, va_rf (some (K 4 1)), .int 0])
  have hA : aI K N (va_up N l (some (eO 18 [.int 0, va_rf (some (K 4 1)), .int 0]))) l [] := ⟨hl, Or.inl ⟨rfl, _, up_eq _ _ _⟩⟩
  obtain ⟨N1, eN1⟩ : ∃ N1, N1 = va_up N l (some (eO 18 [.int 0, va_rf (some (K 4 1)), .int 0])) := ⟨_, rfl⟩
  rw [← eN1] at n1 hA ⊢
  have x1 := n1 _ _ hx
  refine ⟨_, _, _, _, x1, 70, 640, by omega, by omega, c_rdTerm (i := 0) (hL.nw n1) hT x1 hp (by omega) (by omega) (by omega) ⟨fun t p' hR N2 y b' q1 q2 q3 q4 => ?_, fun w pl hR N2 y f1 f2 f3 f4 g q1 q2 q3 q4 fs hfs => ?_⟩⟩
  · have hA2 := hA.kx x1 q1
    have hts2 : tmsAt K N2 ([] ++ [y]) ([] ++ [t]) := tmsAt.snoc ⟨rfl, fun i t ht => by cases ht⟩ q4
    have k2 := n1.kx.trans q1
    obtain ⟨o1, o2, o3, o4⟩ := hA2.obj
    refine ⟨y, rfl, o1, o2, o3, o4, 1, 10, by omega, by omega, c_alAdd hA2 (k2.dm q2) (by decide) q4 (by omega) (by omega) (fun N3 hA3 keep => ⟨5, ?_⟩)⟩
    have hO' : fmP K x N (if srt T n p' = 0 then .inr [t] else if ¬ sgIs T n p' 43 then .inl (1, p', [t].length - 1) else fmRd T n 5 (sk T n (p' + 1)) [t]) post xp := by
      unfold fmRd at hO
      rw [show ([] : List tm).length = 0 from rfl, hR] at hO
      exact hO
    exact c_fm20 hT hL hx 4 p' _ _ [t] _ N3 b' rfl (Nat.le_refl 1) (tmRd_le hp hR).2 (keep x _ q2 (Or.inr rfl)) (fun z e hz zx => keep z e (k2 z e hz zx) (Or.inl (by rw [hz]; exact fun c => nomatch c))) hA3 (hts2.of (fun y t hy => keep y _ hy (Or.inr rfl))) (by omega) (by omega) hO'
  · exact c_wrap (o := 0) rfl (n1.kx.trans q1) (n1.none q3) ((n1.kx.dm x1).tr q2) q4 (by omega) (by omega) (fun N' y' k1' k2' k3' k4' => hO.2 w pl 0 (by unfold fmRd; rw [show ([] : List tm).length = 0 from rfl, hR]) N' y' y f1 f2 f3 f4 g k1' k2' (n1.none q3) k3' k4')
end
