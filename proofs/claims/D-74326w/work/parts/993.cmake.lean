set_option maxRecDepth 100000
set_option maxHeartbeats 4000000
/-! the component: forms made -/
/-- all cells stay; new ones may come -/
def nw (N N' : NM) : Prop := ∀ z e, N z = some e → N' z = some e
theorem nw.refl (N : NM) : nw N N := fun _ _ h => h
theorem nw.trans {N N1 N2 : NM} (h : nw N N1) (g : nw N1 N2) : nw N N2 := fun z e a => g z e (h z e a)
theorem nw.kp {N N' : NM} (h : nw N N') (a : Nat → Nat) : kp a N N' := fun q e h1 _ => h q e h1
theorem nw.new {N N' : NM} (h : nw N N') {q : Nat} (hq : N q = none) (e : NE) : nw N (va_up N' q (some e)) := fun z x h1 => by
  rw [up_ne _ _ _ (fun w => by rw [w, hq] at h1; cases h1)]; exact h z x h1
theorem nw.none {N N' : NM} (h : nw N N') {q : Nat} (hq : N' q = none) : N q = none := by
  cases e : N q with
  | none => rfl
  | some x => have := h q x e; rw [hq] at this; cases this
/-- a row of terms -/
def rTs (K : Nat → Nat → Nat) (N : NM) (f : Nat → Option Nat) (ts : List tm) : Prop := ∀ i t, ts[i]? = some t → ∃ z, f i = some z ∧ N z = some (oTm K t)
section
variable {K : Nat → Nat → Nat} {a : Nat → Nat}
theorem rfA.nw {N N' : NM} {x k n : Nat} {y : Nat → Nat} (h : rfA N x k n y) (hn : nw N N') : rfA N' x k n y := by
  obtain ⟨f, h1, h2⟩ := h
  exact ⟨f, hn _ _ h1, h2⟩
theorem cL.nw {S : CS} {N N' : NM} (h : cL K a S N) (hn : nw N N') : cL K a S N' :=
  ⟨hn _ _ h.obj, hn _ _ h.slots, hn _ _ h.tape, hn _ _ h.cls, hn _ _ h.nxt, fun k hk => hn _ _ (h.row hk), fun k hk => hn _ _ (h.can hk), h.kinds.nw hn, h.words.nw hn, h.frm.nw hn, h.layers.nw hn, h.cans.nw hn, h.2.2.2.2.2.2.2.2.2.2.2.2⟩
theorem rTs.nw {N N' : NM} {f : Nat → Option Nat} {ts : List tm} (h : rTs K N f ts) (hn : nw N N') : rTs K N' f ts := fun i t ht => by
  obtain ⟨z, z1, z2⟩ := h i t ht
  exact ⟨z, z1, hn _ _ z2⟩
theorem cF.nw {N N' : NM} {q : Nat} {ts : List tm} (h : cF K N q ts) (hn : nw N N') : cF K N' q ts := by
  obtain ⟨y, f, h1, h2, h3⟩ := h
  exact ⟨y, f, hn _ _ h1, hn _ _ h2, rTs.nw h3 hn⟩
theorem c_formOf {post : Option Nat → NM → Prop} {MC MS : Nat} {M : NM} {x0 n : Nat} {f : Nat → Option Nat} {ts : List tm} (hx : M x0 = some (eR 5 n f)) (hn : ts.length ≤ n) (hl : ts.length ≤ 5) (hr : rTs K M f ts) (hMC : 2 ≤ MC) (hMS : 6 ≤ MS) (h : ∀ N' q, nw M N' → M q = none → cF K N' q ts → post (some q) N') : wX0_formOf K post MC MS M x0 (iI (ts.length : Nat)) := by
  have el : (iI (ts.length : Int)).toNatClampNeg = ts.length := nat_i (by omega)
  have e0 : (0 : Int32).toNatClampNeg = 0 := by decide
  have hneg : ¬ iI (ts.length : Int) < 0 := by
    rw [show (0 : Int32) = iI 0 from rfl, iI_lt (by omega) (by omega) (by omega) (by omega)]; omega
  unfold wX0_formOf
  rw [el, e0]
  refine ⟨hneg, by omega, by omega, by omega, fun q1 hq1 N7 e7 => ?_⟩
  subst e7
  have n1 := (nw.refl M).new hq1 (eR 5 ts.length (fun _ => none))
  refine ⟨_, _, n1 _ _ hx, by decide, by decide, hneg, by omega, by omega, fun i hi y hy => ?_, fun N25 e25 => ?_⟩
  · obtain ⟨t, ht⟩ : ∃ t, ts[i]? = some t := ⟨_, List.getElem?_eq_getElem (by omega)⟩
    obtain ⟨z, z1, z2⟩ := hr i t ht
    rw [Nat.zero_add, z1] at hy
    cases hy
    exact ⟨_, n1 _ _ z2⟩
  · rw [up_up] at e25
    subst e25
    have n2 := (nw.refl M).new hq1 (eR 5 ts.length (va_cpy f (fun _ => none) 0 0 ts.length))
    refine ⟨by omega, by omega, fun q2 hq2 N32 e32 => ?_⟩
    subst e32
    have hq2M : M q2 = none := n2.none hq2
    have hne : q1 ≠ q2 := fun e => by rw [e, up_eq] at hq2; cases hq2
    unfold wX6_init
    refine ⟨_, up_eq _ _ _, fun N3 e3 => ?_⟩
    rw [up_up] at e3
    subst e3
    have n3 := n2.new hq2M (eO 7 [va_rf (some q1)])
    refine h _ q2 n3 hq2M ⟨q1, _, up_eq _ _ _, by rw [up_ne _ _ _ hne]; exact up_eq _ _ _, fun i t ht => ?_⟩
    have hi := (List.getElem?_eq_some_iff.mp ht).1
    obtain ⟨z, z1, z2⟩ := hr i t ht
    refine ⟨z, ?_, n3 _ _ z2⟩
    unfold va_cpy
    rw [if_pos (by omega), show 0 + (i - 0) = i by omega]
    exact z1
/-- a form is laid into a slot -/
def cM (K : Nat → Nat → Nat) (a : Nat → Nat) (S : CS) (N : NM) (d : Nat) (L : List tm) (S' : CS) (N' : NM) : Prop := cL K a S' N' ∧ kp a N N' ∧ S'.1 = S.1 ∧ S'.2.2 = S.2.2 ∧ ∃ q, S'.2.1 = va_up S.2.1 d (some q) ∧ cF K N' q L
theorem cM.put {S : CS} {N M : NM} {d q : Nat} {L : List tm} (hL : cL K a S M) (hk : kp a N M) (hF : cF K M q L) : cM K a S N d L (cSl S (va_up S.2.1 d (some q))) (va_up M (a 3) (some (eR 4 4 (va_up S.2.1 d (some q))))) := by
  have hk2 := hk.at (i := 3) (by omega) (eR 4 4 (va_up S.2.1 d (some q)))
  refine ⟨hL.setSl _, hk2, rfl, rfl, q, rfl, hF.kp hL ((kp.refl a M).at (by omega) _)⟩
theorem cM.slots {S S' : CS} {N N' : NM} {d : Nat} {L : List tm} {F : Nat → List tm} (hL : cL K a S N) (h : cM K a S N d L S' N') (hF : cSlots K S N F) (hv : vF L) : cSlots K S' N' (upF F d L) := fun s hs => by
  obtain ⟨h1, h2, h3, h4, q, h5, h6⟩ := h
  unfold upF
  rw [h5]
  by_cases e : s = d
  · rw [if_pos e, e, up_eq]
    exact ⟨hv, Or.inr ⟨q, rfl, h6⟩⟩
  · rw [if_neg e, up_ne _ _ _ e]
    obtain ⟨f1, f2⟩ := hF s hs
    refine ⟨f1, ?_⟩
    rcases f2 with f2 | ⟨p, f2, f3⟩
    · exact Or.inl f2
    · exact Or.inr ⟨p, f2, f3.kp hL h2⟩
theorem cLaid.same {S S' : CS} {N N' : NM} (hL : cL K a S N) (hk : kp a N N') (h1 : S'.1.1 5 = S.1.1 5) (h2 : S'.2.2.2.1 = S.2.2.2.1) (h : cLaid K S N) : cLaid K S' N' := by
  rcases h with h | ⟨q, ts, c1, c2, c3, c4⟩
  · exact Or.inl (by rw [h1]; exact h)
  · exact Or.inr ⟨q, ts, by rw [h1]; exact c1, c2.kp hL hk, c3, fun i hi => by rw [h2]; exact c4 i hi⟩
theorem cUnl.same {S S' : CS} {N N' : NM} (hL : cL K a S N) (hk : kp a N N') (h1 : S'.1.1 6 = S.1.1 6) (h2 : S'.2.2.2.1 = S.2.2.2.1) (h : cUnl K S N) : cUnl K S' N' := by
  rcases h with h | ⟨q, ts, c1, c2, c3, c4⟩
  · exact Or.inl (by rw [h1]; exact h)
  · exact Or.inr ⟨q, ts, by rw [h1]; exact c1, c2.kp hL hk, c3, by rw [h2]; exact c4⟩
/-- no form, or one with terms -/
def opF (K : Nat → Nat → Nat) (N : NM) (x : Option Nat) (A : List tm) : Prop := (x = none ∧ A = []) ∨ ∃ q, x = some q ∧ A ≠ [] ∧ cF K N q A
theorem c_join_120 {post : Int32 → NM → Prop} {S : CS} {N M : NM} {d nq mc ms : Nat} {L : List tm} {g : Nat → Option Nat} (hL : cL K a S M) (hk : kp a N M) (hd : d < 4) (hq : M nq = some (eR 5 5 g)) (hl : L.length ≤ 5) (hr : rTs K M g L) (hmc : 2 ≤ mc) (hms : 6 ≤ ms) (h0 : L = [] → post 0 M) (h1 : L ≠ [] → ∀ S' N', cM K a S N d L S' N' → post 1 N') : wX0_join_120 K post (a 0) (iI d) (iI (L.length : Nat)) nq mc ms M := by
  unfold wX0_join_120
  rw [show (0 : Int32) = iI 0 from rfl, iI_eq (by omega) (by omega) (by omega) (by omega)]
  refine ⟨fun e => h0 (List.length_eq_zero_iff.mp (by omega)), fun e => ⟨_, _, _, _, _, _, _, _, _, _, _, _, _, _, _, _, _, _, _, hL.obj, mc, ms, Nat.le_refl _, Nat.le_refl _, ?_⟩⟩
  refine c_formOf hq hl hl hr hmc hms (fun N' q hn hqn hF => ?_)
  have hL' := hL.nw hn
  obtain ⟨y, f, f1, f2, f3⟩ := hF
  refine ⟨a 3, rfl, _, _, hL'.slots, iI_in (by omega) (by omega) (by omega), q, rfl, _, f1, fun N2 e2 => ?_⟩
  rw [nat_i (by omega)] at e2
  subst e2
  exact h1 (fun z => e (by rw [z]; rfl)) _ _ (cM.put hL' (hk.trans (hn.kp a)) ⟨y, f, f1, f2, f3⟩)
theorem len_cpy {f g : Nat → Option Nat} {N : NM} {A B : List tm} (hA : rTs K N g A) (hB : rTs K N f B) : rTs K N (va_cpy f g 0 A.length B.length) (A ++ B) := fun i t ht => by
  by_cases c : i < A.length
  · rw [List.getElem?_append_left c] at ht
    unfold va_cpy
    rw [if_neg (by omega)]
    exact hA i t ht
  · rw [List.getElem?_append_right (by omega)] at ht
    have := (List.getElem?_eq_some_iff.mp ht).1
    unfold va_cpy
    rw [if_pos (by omega), Nat.zero_add]
    exact hB _ t ht
theorem c_join_97 {post : Int32 → NM → Prop} {S : CS} {N M : NM} {d nq mc ms : Nat} {A B : List tm} {x5 : Option Nat} {g : Nat → Option Nat} (hL : cL K a S N) (hn : N nq = none) (hM : M = va_up N nq (some (eR 5 5 g))) (hd : d < 4) (hA5 : A.length ≤ 5) (hB5 : B.length ≤ 5) (hA : rTs K N g A) (hB : opF K N x5 B) (hmc : 3 ≤ mc) (hms : 410 ≤ ms) (h0 : ¬ (1 ≤ A.length + B.length ∧ A.length + B.length ≤ 5) → ∀ N', nw N N' → post 0 N') (h1 : 1 ≤ A.length + B.length → A.length + B.length ≤ 5 → ∀ S' N', cM K a S N d (A ++ B) S' N' → post 1 N') : wX0_join_97 K post (a 0) (iI d) x5 (iI (A.length : Nat)) (iI ((A.length + B.length : Nat) : Int)) nq mc ms M := by
  have hnw : ∀ g', nw N (va_up N nq (some (eR 5 5 g'))) := fun g' => (nw.refl N).new hn _
  have e0 : (0 : Int32).toNatClampNeg = 0 := by decide
  subst hM
  unfold wX0_join_97
  rcases hB with ⟨b1, b2⟩ | ⟨q, b1, b2, b3⟩
  · subst b1 b2
    refine ⟨fun _ => ?_, fun _ e => by cases e⟩
    have := c_join_120 (post := post) (mc := mc) (ms := ms) (N := N) (L := A) (hL.nw (hnw g)) ((hnw g).kp a) hd (up_eq _ _ _) hA5 (hA.nw (hnw g)) (by omega) (by omega) (fun z => h0 (by rw [z]; simp) _ (hnw g)) (fun z S' N' hM => by
      have hp : 0 < A.length := List.length_pos_iff.mpr z
      refine h1 (by simp; omega) (by simp; omega) S' N' ?_
      rw [List.append_nil]; exact hM)
    rw [List.length_nil, Nat.add_zero]
    exact this
  · subst b1
    refine ⟨fun e => (by cases e), fun _ e => ?_⟩
    cases e
    have b4 := b3.nw (hnw g)
    obtain ⟨y, f, f1, f2, f3⟩ := b4
    refine ⟨_, f1, c_many0 (b3.nw (hnw g)) ⟨y, rfl, _, _, up_eq _ _ _, _, _, f2, by decide, ?_, ?_, ?_⟩⟩
    · rw [show (0 : Int32) = iI 0 from rfl, iI_lt (by omega) (by omega) (by omega) (by omega)]; omega
    · rw [show (0 : Int32) = iI 0 from rfl, iI_lt (by omega) (by omega) (by omega) (by omega)]; omega
    rw [e0, nat_i (by omega), nat_i (by omega)]
    refine ⟨by omega, fun hfit => ⟨fun i hi y' hy' => ?_, fun N2 e2 => ?_⟩, fun hfit => ⟨by omega, by omega, by omega, fun _ => h0 (by omega) _ (hnw g)⟩⟩
    · obtain ⟨t, ht⟩ : ∃ t, B[i]? = some t := ⟨_, List.getElem?_eq_getElem (by omega)⟩
      obtain ⟨z, z1, z2⟩ := f3 i t ht
      rw [Nat.zero_add, z1] at hy'
      cases hy'
      exact ⟨_, z2⟩
    · rw [up_up] at e2
      subst e2
      have hb0 : 0 < B.length := List.length_pos_iff.mpr b2
      obtain ⟨y', f', f1', f2', f3'⟩ := b3
      have ey := hnw g _ _ f1'
      rw [f1] at ey
      have ey := (Prod.mk.inj (Sum.inr.inj (Option.some.inj ey))).2
      simp only [List.cons.injEq, and_true] at ey
      unfold va_rf at ey
      simp only [Value.ref.injEq] at ey
      subst ey
      have ef := hnw g _ _ f2'
      rw [f2] at ef
      have ef := (Prod.mk.inj (Prod.mk.inj (Sum.inl.inj (Option.some.inj ef))).2).2
      have ef : f = f' := Sum.inr.inj (Sum.inr.inj (Sum.inr.inj (Sum.inr.inj ef)))
      subst ef
      have hab := len_cpy hA f3'
      have := c_join_120 (post := post) (mc := mc) (ms := ms) (N := N) (L := A ++ B) (d := d) (hL.nw (hnw _)) ((hnw _).kp a) hd (up_eq _ _ _) (by rw [List.length_append]; omega) (hab.nw (hnw _)) (by omega) (by omega) (fun z => by
        have : (A ++ B).length = 0 := by rw [z]; rfl
        rw [List.length_append] at this; omega) (fun z S' N' hM => h1 (by omega) (by omega) S' N' hM)
      rw [List.length_append] at this
      exact this
theorem c_join_69 {post : Int32 → NM → Prop} {S : CS} {N : NM} {d mc ms : Nat} {A B : List tm} {x4 x5 : Option Nat} (hL : cL K a S N) (hd : d < 4) (hA5 : A.length ≤ 5) (hB5 : B.length ≤ 5) (hA : opF K N x4 A) (hB : opF K N x5 B) (hmc : 10 ≤ mc) (hms : 500 ≤ ms) (h0 : ¬ (1 ≤ A.length + B.length ∧ A.length + B.length ≤ 5) → ∀ N', nw N N' → post 0 N') (h1 : 1 ≤ A.length + B.length → A.length + B.length ≤ 5 → ∀ S' N', cM K a S N d (A ++ B) S' N' → post 1 N') : wX0_join_69 K post (a 0) (iI d) x4 x5 (iI (A.length : Nat)) (iI (B.length : Nat)) (iI (A.length : Nat)) mc ms N := by
  have e0 : (0 : Int32).toNatClampNeg = 0 := by decide
  have e5 : (5 : Int32).toNatClampNeg = 5 := by decide
  unfold wX0_join_69
  rw [e5, e0, nat_i (by omega), show iI (A.length : Int) + iI (B.length : Int) = iI ((A.length + B.length : Nat) : Int) from iI_add _ _]
  refine ⟨by decide, by omega, by omega, by omega, fun nq hnq N71 e71 => ?_⟩
  subst e71
  have hnw : ∀ g', nw N (va_up N nq (some (eR 5 5 g'))) := fun g' => (nw.refl N).new hnq _
  rcases hA with ⟨b1, b2⟩ | ⟨q, b1, b2, b3⟩
  · subst b1 b2
    refine ⟨fun _ => ?_, fun _ e => by cases e⟩
    exact c_join_97 (A := []) hL hnq rfl hd hA5 hB5 (fun i t ht => by simp at ht) hB (by omega) (by omega) h0 h1
  · subst b1
    refine ⟨fun e => (by cases e), fun _ e => ?_⟩
    cases e
    have b4 := b3.nw (hnw (fun _ => none))
    obtain ⟨y, f, f1, f2, f3⟩ := b4
    refine ⟨_, f1, y, rfl, _, _, f2, by decide, by decide, ?_, by omega, fun hfit => ⟨fun i hi y' hy' => ?_, fun N2 e2 => ?_⟩, fun hfit => absurd hA5 (by omega)⟩
    · rw [show (0 : Int32) = iI 0 from rfl, iI_lt (by omega) (by omega) (by omega) (by omega)]; omega
    · obtain ⟨t, ht⟩ : ∃ t, A[i]? = some t := ⟨_, List.getElem?_eq_getElem (by omega)⟩
      obtain ⟨z, z1, z2⟩ := f3 i t ht
      rw [Nat.zero_add, z1] at hy'
      cases hy'
      exact ⟨_, z2⟩
    · rw [up_up] at e2
      obtain ⟨y', f', f1', f2', f3'⟩ := b3
      have ey := hnw (fun _ => none) _ _ f1'
      rw [f1] at ey
      have ey := (Prod.mk.inj (Sum.inr.inj (Option.some.inj ey))).2
      simp only [List.cons.injEq, and_true] at ey
      unfold va_rf at ey
      simp only [Value.ref.injEq] at ey
      subst ey
      have ef := hnw (fun _ => none) _ _ f2'
      rw [f2] at ef
      have ef := (Prod.mk.inj (Prod.mk.inj (Sum.inl.inj (Option.some.inj ef))).2).2
      have ef : f = f' := Sum.inr.inj (Sum.inr.inj (Sum.inr.inj (Sum.inr.inj ef)))
      subst ef
      refine c_join_97 hL hnq e2 hd hA5 hB5 ?_ hB (by omega) (by omega) h0 h1
      have := len_cpy (A := []) (g := fun _ => none) (N := N) (K := K) (fun i t ht => by simp at ht) f3'
      rw [List.nil_append] at this
      exact this
theorem c_join {post : Int32 → NM → Prop} {MC MS : Nat} {S : CS} {N : NM} {F : Nat → List tm} {x y z : Int} (hL : cL K a S N) (hF : cSlots K S N F) (hx : i32 x) (hy : i32 y) (hz : i32 z) (hMC : 20 ≤ MC) (hMS : 1000 ≤ MS) (h0 : ¬ (0 ≤ x ∧ x ≤ 3 ∧ 0 ≤ y ∧ y ≤ 3 ∧ 0 ≤ z ∧ z ≤ 3 ∧ 1 ≤ (F x.toNat).length + (F y.toNat).length ∧ (F x.toNat).length + (F y.toNat).length ≤ 5) → ∀ N', nw N N' → post 0 N') (h1 : ∀ s o d S' N', s < 4 → x = (s : Nat) → o < 4 → y = (o : Nat) → d < 4 → z = (d : Nat) → 1 ≤ (F s).length + (F o).length → (F s).length + (F o).length ≤ 5 → cM K a S N d (F s ++ F o) S' N' → post 1 N') : wX0_join K post MC MS N (a 0) (iI x) (iI y) (iI z) := by
  unfold wX0_join
  refine c_isSlot hx (fun x1 x2 => b_f (by decide) ?_) (fun c => b_t rfl (h0 (by omega) N (nw.refl N)))
  refine c_isSlot hy (fun y1 y2 => b_f (by decide) ?_) (fun c => b_t rfl (h0 (by omega) N (nw.refl N)))
  refine c_isSlot hz (fun z1 z2 => b_f (by decide) ?_) (fun c => b_t rfl (h0 (by omega) N (nw.refl N)))
  have hA5 := (hF x.toNat (by omega)).1.1
  have hB5 := (hF y.toNat (by omega)).1.1
  have go : ∀ x4 x5, opF K N x4 (F x.toNat) → opF K N x5 (F y.toNat) → wX0_join_51 K post (a 0) (iI z) x4 x5 (iI ((F x.toNat).length : Nat)) (MC - 3 - 3) (MS - 210 - 210) N := fun x4 x5 o4 o5 => by
    have g69 : wX0_join_69 K post (a 0) (iI z) x4 x5 (iI ((F x.toNat).length : Nat)) (iI ((F y.toNat).length : Nat)) (iI ((F x.toNat).length : Nat)) (MC - 3 - 3) (MS - 210 - 210) N := by
      rw [show iI z = iI ((z.toNat : Nat) : Int) by congr 1; omega]
      exact c_join_69 hL (by omega) hA5 hB5 o4 o5 (by omega) (by omega) (fun c N' hn => h0 (by omega) N' hn) (fun l1 l2 S' N' hM => h1 x.toNat y.toNat z.toNat S' N' (by omega) (by omega) (by omega) (by omega) (by omega) (by omega) l1 l2 hM)
    unfold wX0_join_51
    rcases o5 with ⟨b1, b2⟩ | ⟨q, b1, b2, b3⟩
    · refine ⟨fun _ => ?_, fun _ e => by rw [b1] at e; cases e⟩
      rw [b2] at g69
      exact g69
    · refine ⟨fun e => (by rw [b1] at e; cases e), fun _ e => ?_⟩
      rw [b1] at e
      cases e
      have b4 := b3
      obtain ⟨y, f, f1, f2, f3⟩ := b4
      exact ⟨_, f1, c_many0 b3 g69⟩
  have atF : ∀ (x4 : Option Nat) (w : Int), 0 ≤ w → w ≤ 3 → (x4 = none ∧ ¬ (0 ≤ w ∧ w ≤ 3 ∧ F w.toNat ≠ [])) ∨ (∃ q, x4 = some q ∧ F w.toNat ≠ [] ∧ cF K N q (F w.toNat)) → opF K N x4 (F w.toNat) := fun x4 w w1 w2 hh => by
    rcases hh with ⟨b1, b2⟩ | ⟨q, b1, b2, b3⟩
    · exact Or.inl ⟨b1, Classical.byContradiction fun c => b2 ⟨w1, w2, c⟩⟩
    · exact Or.inr ⟨q, b1, b2, b3⟩
  have fin : ∀ r7 : Option Nat, opF K N r7 (F x.toNat) → ∀ r33 : Option Nat, opF K N r33 (F y.toNat) → ((r7 = none → wX0_join_51 K post (a 0) (iI z) r7 r33 0 (MC - 3 - 3) (MS - 210 - 210) N) ∧ ∀ a60, r7 = some a60 → ∃ f175, N a60 = some (eO 7 [va_rf f175]) ∧ wX6_many K (fun r172 N173 => wX0_join_51 K post (a 0) (iI z) r7 r33 r172 (MC - 3 - 3) (MS - 210 - 210) N173) N a60) := fun r7 o7 r33 o33 => by
    have g := go r7 r33 o7 o33
    rcases o7 with ⟨b1, b2⟩ | ⟨q, b1, b2, b3⟩
    · refine ⟨fun _ => ?_, fun _ e => by rw [b1] at e; cases e⟩
      rw [b2] at g
      exact g
    · refine ⟨fun e => (by rw [b1] at e; cases e), fun _ e => ?_⟩
      rw [b1] at e
      cases e
      have b4 := b3
      obtain ⟨y, f, f1, f2, f3⟩ := b4
      exact ⟨_, f1, c_many0 b3 g⟩
  refine ⟨_, _, _, _, _, _, _, _, _, _, _, _, _, _, _, _, _, _, _, hL.obj, 3, 210, by omega, by omega, c_at hL hF hx (by omega) (by omega) (fun hq => ?_) (fun s q hs e hne hq hf hv => ?_)⟩
  · have o7 := atF none x x1 x2 (Or.inl ⟨rfl, hq⟩)
    refine ⟨_, _, _, _, _, _, _, _, _, _, _, _, _, _, _, _, _, _, _, hL.obj, 3, 210, by omega, by omega, c_at hL hF hy (by omega) (by omega) (fun hq2 => ?_) (fun s2 q2 hs2 e2 hne2 hq2 hf2 hv2 => ?_)⟩
    · exact fin none o7 none (atF none y y1 y2 (Or.inl ⟨rfl, hq2⟩))
    · exact fin none o7 (some q2) (atF (some q2) y y1 y2 (Or.inr ⟨q2, rfl, by rw [show y.toNat = s2 by omega]; exact ⟨hne2, hf2⟩⟩))
  · have o7 := atF (some q) x x1 x2 (Or.inr ⟨q, rfl, by rw [show x.toNat = s by omega]; exact ⟨hne, hf⟩⟩)
    refine ⟨_, _, _, _, _, _, _, _, _, _, _, _, _, _, _, _, _, _, _, hL.obj, 3, 210, by omega, by omega, c_at hL hF hy (by omega) (by omega) (fun hq2 => ?_) (fun s2 q2 hs2 e2 hne2 hq2 hf2 hv2 => ?_)⟩
    · exact fin (some q) o7 none (atF none y y1 y2 (Or.inl ⟨rfl, hq2⟩))
    · exact fin (some q) o7 (some q2) (atF (some q2) y y1 y2 (Or.inr ⟨q2, rfl, by rw [show y.toNat = s2 by omega]; exact ⟨hne2, hf2⟩⟩))
end
