set_option maxRecDepth 100000
set_option maxHeartbeats 4000000
/-! the component reads a line of a proof -/
def pSt (K : Nat → Nat → Nat) (a : Nat → Nat) (x : Nat) (S0 : CS) (N0 : NM) (S : CS) (N : NM) : Prop :=
  cL K a S N ∧ lyEq S0 S ∧ cLaid K S N ∧ (∀ z e, N0 z = some e → (∀ i, i < 28 → z ≠ a i) → z ≠ x → N z = some e) ∧ dm N0 N
section
variable {K : Nat → Nat → Nat} {a : Nat → Nat}
theorem cLaid.kx {S : CS} {N N' : NM} {x p : Nat} {b d : Int32} (h : cLaid K S N) (hx : N x = some (rdr a p b d)) (hk : kx x N N') : cLaid K S N' := by
  rcases h with h | ⟨q, ts, h1, h2, h3, h4⟩
  · exact Or.inl h
  · exact Or.inr ⟨q, ts, h1, h2.kx hx hk, h3, h4⟩
theorem cF.of {N N' : NM} {q : Nat} {ts : List tm} (h : cF K N q ts) (hk : ∀ z u, N z = some u → tK u = true → N' z = some u) : cF K N' q ts := by
  obtain ⟨y, f, h1, h2, h3⟩ := h
  refine ⟨y, f, hk _ _ h1 rfl, hk _ _ h2 rfl, fun i t ht => ?_⟩
  obtain ⟨z, z1, z2⟩ := h3 i t ht
  exact ⟨z, z1, hk _ _ z2 rfl⟩
theorem rfA.of {N N' : NM} {x k n : Nat} {y : Nat → Nat} (h : rfA N x k n y) (hk : ∀ z u, N z = some u → tK u = true → N' z = some u) : rfA N' x k n y := by
  obtain ⟨f, h1, h2⟩ := h
  exact ⟨f, hk _ _ h1 rfl, h2⟩
theorem cL.of {S : CS} {N N' : NM} (h : cL K a S N) (hk : ∀ z u, N z = some u → tK u = true → N' z = some u) : cL K a S N' :=
  ⟨hk _ _ h.obj rfl, hk _ _ h.slots rfl, hk _ _ h.tape rfl, hk _ _ h.cls rfl, hk _ _ h.nxt rfl, fun k hk' => hk _ _ (h.row hk') rfl, fun k hk' => hk _ _ (h.can hk') rfl, h.kinds.of hk, h.words.of hk, h.frm.of hk, h.layers.of hk, h.cans.of hk, h.2.2.2.2.2.2.2.2.2.2.2.2⟩
theorem pSt.kx {x p : Nat} {b d : Int32} {S0 S : CS} {N0 N N' : NM} (h : pSt K a x S0 N0 S N) (hx : N x = some (rdr a p b d)) (hk : kx x N N') (hd : dm N N') : pSt K a x S0 N0 S N' :=
  ⟨h.1.kx hx hk, h.2.1, h.2.2.1.kx hx hk, fun z e h1 h2 h3 => hk _ _ (h.2.2.2.1 z e h1 h2 h3) h3, h.2.2.2.2.tr hd⟩
theorem pSt.tree {x : Nat} {S0 S : CS} {N0 N N' : NM} (h : pSt K a x S0 N0 S N) (hk : ∀ z u, N z = some u → (N0 z ≠ none ∨ tK u = true) → N' z = some u) : pSt K a x S0 N0 S N' := by
  have hk' : ∀ z u, N z = some u → tK u = true → N' z = some u := fun z u h1 h2 => hk z u h1 (Or.inr h2)
  refine ⟨h.1.of hk', h.2.1, ?_, fun z e h1 h2 h3 => hk z e (h.2.2.2.1 z e h1 h2 h3) (Or.inl (by rw [h1]; exact fun c => by cases c)), fun z hz c => ?_⟩
  · rcases h.2.2.1 with g | ⟨q, ts, h1, h2, h3, h4⟩
    · exact Or.inl g
    · exact Or.inr ⟨q, ts, h1, h2.of hk', h3, h4⟩
  · cases e : N z with
    | none => exact h.2.2.2.2 z hz e
    | some u => have := hk z u e (Or.inl hz); rw [c] at this; cases this
theorem pSt.wy {x p : Nat} {b d : Int32} {S0 S S' : CS} {N0 N N' : NM} (h : pSt K a x S0 N0 S N) (hw : cW K a S N S' N') : pSt K a x S0 N0 S' N' := by
  refine ⟨hw.1, h.2.1.trans hw.2.2.1, hw.2.2.2, fun z e h1 h2 h3 => hw.2.1 z e (h.2.2.2.1 z e h1 h2 h3) h2, fun z hz c => ?_⟩
  have hz' := h.2.2.2.2 z hz
  cases e : N z with
  | none => exact hz' e
  | some u =>
    by_cases ho : ∀ i, i < 28 → z ≠ a i
    · have := hw.2.1 z u e ho; rw [c] at this; cases this
    · have : ∃ i, i < 28 ∧ z = a i := Classical.byContradiction (fun q => ho (fun i hi e => q ⟨i, hi, e⟩))
      obtain ⟨i, hi, ei⟩ := this
      exact hw.1.outN c i hi ei
theorem tM.kp {S : CS} {N0 N N' : NM} {m cmp : Nat} {W : List (Nat × Int)} (hL : cL K a S N) (h : tM K N0 N m cmp W) (hk : kp a N N') : tM K N0 N' m cmp W := by
  obtain ⟨rt, s, md, h1, ⟨n, h2⟩, h3, h4, h5, h6, h7, h8⟩ := h
  refine ⟨rt, s, md, hk _ _ h1 (hL.out h1 rfl), ⟨n, h2.fr _ _ _ _ (fun z hz => ?_) (fun z v hz => hk _ _ hz (hL.out hz rfl))⟩, fun g hg => ?_, h4, hk _ _ h5 (hL.out h5 rfl), h6, h7, h8⟩
  · obtain ⟨fs, hf⟩ := h2.cell _ _ _ _ z hz
    rw [hf]
    exact hk _ _ hf (hL.out hf rfl)
  · obtain ⟨ko, vo, l, r, e⟩ := h3 g hg
    exact ⟨ko, vo, l, r, hk _ _ e (hL.out e rfl)⟩
theorem nw.k22 {N N' : NM} (h : nw N N') : k22 N N' := fun z v hz => h z _ hz
/-- all that is known at a place of a line -/
def lqS (K : Nat → Nat → Nat) (a : Nat → Nat) (x m cmp q : Nat) (d : Int32) (S0 : CS) (N0 : NM) (ts : List tm) (W : List (Nat × Int)) (p : Nat) (b : Int32) (S : CS) (N : NM) : Prop :=
  pSt K a x S0 N0 S N ∧ N x = some (rdr a p b d) ∧ cF K N q ts ∧ tM K N0 N m cmp W
theorem lqS.kx {x m cmp q p p' : Nat} {b b' d : Int32} {S0 S : CS} {N0 N N' : NM} {ts : List tm} {W : List (Nat × Int)} (h : lqS K a x m cmp q d S0 N0 ts W p b S N) (hk : kx x N N') (hx : N' x = some (rdr a p' b' d)) : lqS K a x m cmp q d S0 N0 ts W p' b' S N' :=
  ⟨h.1.kx h.2.1 hk (hk.dm hx), hx, h.2.2.1.kx h.2.1 hk, h.2.2.2.kx h.2.1 hk⟩
theorem lqS.nw {x m cmp q p : Nat} {b d : Int32} {S0 S : CS} {N0 N N' : NM} {ts : List tm} {W : List (Nat × Int)} (h : lqS K a x m cmp q d S0 N0 ts W p b S N) (hn : nw N N') : lqS K a x m cmp q d S0 N0 ts W p b S N' := h.kx hn.kx (hn _ _ h.2.1)
theorem c_rdLine {post : Unit → NM → Prop} {xp : Nat → List Nat → NM → Prop} {S0 S : CS} {N0 N : NM} {T : Nat → Int} {n p x q m cmp MC MS : Nat} {b d : Int32} {ts : List tm} {W : List (Nat × Int)} {P : List Int} (hK : kOk K) (hT0 : cTape S0 T n) (hv : vF ts) (hq : lqS K a x m cmp q d S0 N0 ts W p b S N) (hp : p ≤ n) (hW : ∀ j, j ∈ W.map Prod.snd ↔ -j ∈ P) (hP : P.length ≤ 60) (h9 : P.length = 60 → ¬ sgIs T n p 45) (hMC : 64 ≤ MC) (hMS : 480 ≤ MS)
    (hg : ∀ z p0 S' N' W' b', lnRd T n ts P p = lnE T n z p0 → p0 ≤ n → lqS K a x m cmp q d S0 N0 ts W' p0 b' S' N' → (∀ j, j ∈ W'.map Prod.snd ↔ -j ∈ P ++ [z]) → P.length < 60 → post () N')
    (hb : ∀ k pl i, lnRd T n ts P p = .inl (k, pl, i) → ∀ S' N' y ch, pSt K a x S0 N0 S' N' → thr N0 N' y ch k pl i → xp y ch N') : wX2_line K post xp MC MS N x (some q) (some m) (iI (P.length : Nat)) := by
  have tape : ∀ {S' : CS} {N' : NM}, pSt K a x S0 N0 S' N' → cTape S' T n := fun {S' N'} h => by
    obtain ⟨t1, t2, t3⟩ := hT0
    refine ⟨t1, ?_, ?_⟩
    · rw [h.2.1.1]; exact t2
    · rw [h.2.1.2.2.2.1]; exact t3
  have ht8 := hT0.1
  have hx := hq.2.1
  have hL := hq.1.1
  obtain ⟨A, eA⟩ : ∃ A, A = whA T n p := ⟨_, rfl⟩
  obtain ⟨V, eV⟩ : ∃ V, V = whV T n p := ⟨_, rfl⟩
  obtain ⟨p1, ep1⟩ : ∃ p1, p1 = nxT T n A := ⟨_, rfl⟩
  have hA : A ≤ n := by rw [eA]; exact (whA_le hp).2
  have hp1 : p1 ≤ n := by rw [ep1]; exact (nxT_le hA).2
  have hV : -10000 < V ∧ V < 10000 := by rw [eV]; exact whV_in
  have hAp : ¬ sgIs T n p 45 → A = p := fun c => by rw [eA]; unfold whA; rw [if_neg c]
  have hVp : ¬ sgIs T n p 45 → V = numV T n p := fun c => by rw [eV]; unfold whV; rw [if_neg c, ← eA, hAp c]
  have bad : ∀ {N1 : NM} {S1 : CS} {p2 : Nat} {b2 : Int32} {k : Int} {pl y : Nat} {f1 f2 f3 f4 : Option Nat} {g : Int32} {W1 : List (Nat × Int)}, lqS K a x m cmp q d S0 N0 ts W1 p2 b2 S1 N1 → lnRd T n ts P p = .inl (k, pl, -1) → N1 y = none → xp y [y] (va_up N1 y (some (oWr f1 f2 f3 f4 g k (pl : Nat)))) := fun {N1 S1 p2 b2 k pl y f1 f2 f3 f4 g W1} hq1 e hy => by
    have n1 := (nw.refl N1).new hy (oWr f1 f2 f3 f4 g k (pl : Nat))
    exact hb k pl (-1) e S1 _ y [y] (hq1.nw n1).1 (Or.inl ⟨rfl, rfl, hq1.1.2.2.2.2.no hy, f1, f2, f3, f4, g, up_eq _ _ _⟩)
  unfold wX2_line
  refine ⟨_, _, _, _, hx, 2, 16, by omega, by omega, c_whole hL (tape hq.1) hx hp (by omega) (by omega) (fun hbn => ?_) (fun hbn e y f1 f2 f3 f4 g hy fs hfs => ?_)⟩
  rotate_left
  · rw [← eA] at hbn ⊢
    have hk := ((kx.refl x N).at (some e)).new (q := y) hy (oWr f1 f2 f3 f4 g 1 (A : Nat))
    refine hb 1 A (-1) ?_ S _ y [y] (hq.1.kx hx hk (((dm.rf N).up x _).up y _)) (Or.inl ⟨rfl, rfl, hq.1.2.2.2.2.no hy, f1, f2, f3, f4, g, up_eq _ _ _⟩)
    unfold lnRd
    by_cases c45 : sgIs T n p 45
    · rw [if_neg (fun z => z (Or.inr c45)), if_neg (fun z => h9 z c45), ← eA, if_pos hbn]
    · rw [hAp c45] at hbn ⊢
      rw [if_pos (fun z => z.elim hbn c45)]
  · rw [← eA] at hbn ⊢
    rw [← eV, ← ep1]
    have hB : isNb T n p ∨ sgIs T n p 45 := by
      by_cases c45 : sgIs T n p 45
      · exact Or.inr c45
      · rw [hAp c45] at hbn; exact Or.inl hbn
    have hq1 : lqS K a x m cmp q d S0 N0 ts W p1 (iI (A : Nat)) S (va_up N x (some (rdr a p1 (iI (A : Nat)) d))) := hq.kx ((kx.refl x N).at _) (up_eq _ _ _)
    obtain ⟨N1, eN1⟩ : ∃ N1, N1 = va_up N x (some (rdr a p1 (iI (A : Nat)) d)) := ⟨_, rfl⟩
    rw [← eN1] at hq1 ⊢
    have c52 : ∀ (ok : Int32) (N1 : NM) (mc ms : Nat), lqS K a x m cmp q d S0 N0 ts W p1 (iI (A : Nat)) S N1 → 56 ≤ mc → 440 ≤ ms → ¬ outP P V → (ok = 0 ↔ P.length = 60) → wX2_line_52 K post xp x (some q) (some m) (iI (P.length : Nat)) (iI V) ok x mc ms N1 := by
      intro ok N1 mc ms hq1 hmc hms ho hok
      have vb : -3000 ≤ V ∧ V ≤ 3000 := Classical.byContradiction (fun c => ho (Or.inr c))
      have vP : V ∉ P := fun c => ho (Or.inl c)
      unfold wX2_line_52
      refine ⟨_, _, _, _, hq1.2.1, _, _, _, _, hq1.2.1, 1, 8, by omega, by omega, c_mustE 9 (A : Nat) rfl rfl (by omega) (by omega) (fun e => ?_) (fun e y f1 f2 f3 f4 g hy fs hfs => bad hq1 ?_ hy)⟩
      rotate_left
      · have h60 := hok.1 e
        have c45 := h9 h60
        unfold lnRd
        rw [if_neg (fun z => z hB), if_pos h60, if_neg (fun z => ho (by rw [hVp c45]; exact z.2)), hAp c45]
      have h60 : P.length ≠ 60 := fun c => e (hok.2 c)
      have eLn : lnRd T n ts P p = lnC T n ts V p1 := by
        unfold lnRd
        rw [if_neg (fun z => z hB), if_neg h60, ← eA, if_neg (fun z => z hbn), ← eV, if_neg ho, ep1]
      refine ⟨1, 1, by omega, by omega, c_box vb (by omega) (by omega) (fun N2 r1 n2 i1 => ⟨1, 1, by omega, by omega, c_box (by omega) (by omega) (by omega) (fun N3 r2 n3 i2 => ?_)⟩)⟩
      have hq3 := (hq1.nw n2).nw n3
      obtain ⟨rt, sz, md, hm3⟩ := hq3.2.2.2.obj
      have i3 : iAt K N3 r1 (iI (-(-V))) := by rw [Int.neg_neg]; exact i1.k n3.k22
      refine ⟨m, rfl, _, _, _, _, _, _, _, _, _, hm3, 1, 6, by omega, by omega, c_mapPut hq3.2.2.2 hq3.1.2.2.2.2 i3 (by omega) (fun c => vP (by rw [← Int.neg_neg V]; exact (hW (-V)).1 c)) (by omega) (by omega) (fun N4 W4 hM4 hW4 keep => ?_)⟩
      have x4 := keep x _ hq3.2.1 (Or.inr rfl)
      have hq4 : lqS K a x m cmp q d S0 N0 ts W4 p1 (iI (A : Nat)) S N4 := ⟨hq3.1.tree keep, x4, hq3.2.2.1.of (fun z u h1 h2 => keep z u h1 (Or.inr h2)), hM4⟩
      have hW4' : ∀ j, j ∈ W4.map Prod.snd ↔ -j ∈ P ++ [V] := fun j => by
        rw [hW4 j, hW j, List.mem_append, List.mem_singleton]
        exact ⟨fun c => c.elim (fun c => Or.inr (by omega)) Or.inl, fun c => c.elim Or.inr (fun c => Or.inl (by omega))⟩
      have bad4 : ∀ {N5 : NM} {S5 : CS} {p2 : Nat} {b2 : Int32} {k : Int} {pl y : Nat} {f1 f2 f3 f4 : Option Nat} {g : Int32}, lqS K a x m cmp q d S0 N0 ts W4 p2 b2 S5 N5 → lnRd T n ts P p = .inl (k, pl, -1) → N5 y = none → xp y [y] (va_up N5 y (some (oWr f1 f2 f3 f4 g k (pl : Nat)))) := fun {N5 S5 p2 b2 k pl y f1 f2 f3 f4 g} hq5 e hy => bad hq5 e hy
      refine ⟨_, _, _, _, x4, 4, 40, by omega, by omega, c_passesW hq4.1.1 (tape hq4.1) x4 hp1 (by decide) (by decide) (by decide) (by omega) (by omega) (fun w N5 n5 => b_f (by decide) ?_) (fun w N5 n5 => b_t rfl ?_)⟩
      · have hq5 := (hq4.nw n5).kx ((kx.refl x N5).at (some (rdr a (nxT T n p1) (iI (A : Nat)) d))) (up_eq _ _ _)
        obtain ⟨N6, eN6⟩ : ∃ N6, N6 = va_up N5 x (some (rdr a (nxT T n p1) (iI (A : Nat)) d)) := ⟨_, rfl⟩
        rw [← eN6] at hq5 ⊢
        have eC : lnRd T n ts P p = if 0 < Wy ts V then .inl (8, p1, -1) else lnE T n V (nxT T n p1) := by rw [eLn]; unfold lnC; rw [if_pos w]
        refine ⟨_, _, _, _, hq5.2.1, a 0, rfl, _, _, _, _, _, _, _, _, _, _, _, _, _, _, _, _, _, _, _, hq5.1.1.obj, c_wy hK hv hq5.1.1 hq5.2.2.1 (cW.start hq5.1.1 hq5.1.2.2.1) vb (fun r S6 N7 er r0 r1 hw => ?_)⟩
        have x7 : N7 x = some (rdr a (nxT T n p1) (iI (A : Nat)) d) := hw.2.1 _ _ hq5.2.1 (hq5.1.1.out hq5.2.1 rfl)
        have hq7 : lqS K a x m cmp q d S0 N0 ts W4 (nxT T n p1) (iI (A : Nat)) S6 N7 := ⟨hq5.1.wy (p := p1) (b := 0) (d := 0) hw, x7, hq5.2.2.1.kp hq5.1.1 hw.2.1, hq5.2.2.2.kp hq5.1.1 hw.2.1⟩
        rw [show (0 : Int64) = lI 0 from rfl, lI_eq (by omega) (by omega) (by omega) (by omega)]
        refine ⟨fun c => ?_, fun c => ?_⟩
        · unfold wX2_line_111
          refine ⟨_, _, _, _, x7, 1, 8, by omega, by omega, c_mustE 8 (p1 : Nat) rfl rfl (by omega) (by omega) (fun _ => ?_) (fun e => absurd e (by decide))⟩
          exact hg V (nxT T n p1) S6 N7 W4 _ (by rw [eC, if_neg (by omega)]) (nxT_le hp1).2 hq7 hW4' (by omega)
        · unfold wX2_line_111
          exact ⟨_, _, _, _, x7, 1, 8, by omega, by omega, c_mustE 8 (p1 : Nat) rfl rfl (by omega) (by omega) (fun e => absurd rfl e) (fun _ y f1 f2 f3 f4 g hy fs hfs => bad4 hq7 (by rw [eC, if_pos (by omega)]) hy)⟩
      · have hq5 := hq4.nw n5
        have x5 := hq5.2.1
        have eC : lnRd T n ts P p = lnW T n V (if ¬ sgIs T n p1 61 then .inl (1, p1, -1) else wyRd T n ts V 6 0 (nxT T n p1) 0) := by rw [eLn]; unfold lnC; rw [if_neg w]
        refine ⟨_, _, _, _, x5, 1, 8, by omega, by omega, ?_⟩
        rw [show (61 : Int32) = iI 61 from rfl]
        refine c_asks hq5.1.1 (tape hq5.1) x5 hp1 (by omega) (by omega) (by omega) (fun c1 c2 => ⟨7, ?_⟩) (fun c y f1 f2 f3 f4 g hy fs hfs => bad4 hq5 (by rw [eC, if_pos (fun z => c ((sgIs_iff (by decide)).1 z))]; rfl) hy)
        have c61 : sgIs T n p1 61 := (sgIs_iff (by decide)).2 ⟨c1, c2⟩
        rw [if_neg (fun z => z c61), nxT_sg c61] at eC
        have hsk := sk_le (T := T) (n := n) (p := p1 + 1) (by omega)
        have hq6 := hq5.kx ((kx.refl x N5).at (some (rdr a (sk T n (p1 + 1)) (iI (A : Nat)) d))) (up_eq _ _ _)
        refine c_ln131 (tape hq6.1) hv vb 6 0 (sk T n (p1 + 1)) 0 _ (iI (A : Nat)) _ _ (by omega) hsk.2 (by omega) (by omega) hq6.1.1 hq6.2.1 hq6.2.2.1 (by omega) (by omega) ⟨fun v hR N7 b7 k7 x7 => ?_, fun k pl i hR N7 y ch k7 d7 h7 => ?_⟩
        · have := (lnW_E (z := V)).2 v hR
          rw [← eC] at this
          have hle : v ≤ n := by
            cases e : wyRd T n ts V 6 0 (sk T n (p1 + 1)) 0 with
            | inl y => rw [e] at hR; cases hR
            | inr p' =>
              rw [e] at hR
              have h2 := wyRd_le _ _ _ _ hsk.2 e
              unfold wyE at hR
              dsimp only at hR
              split at hR
              · cases hR
              · cases hR; exact h2
          exact hg V v S N7 W4 b7 this hle (hq6.kx k7 x7) hW4' (by omega)
        · have := (lnW_E (z := V)).1 _ hR
          rw [← eC] at this
          exact hb k pl i this S N7 y ch (hq6.1.kx hq6.2.1 k7 d7) (h7.st hq6.1.2.2.2.2)
    have c32 : ∀ (ok : Int32) (N1 : NM) (mc ms : Nat), lqS K a x m cmp q d S0 N0 ts W p1 (iI (A : Nat)) S N1 → 57 ≤ mc → 448 ≤ ms → (ok = 0 ↔ outP P V) → wX2_line_32 K post xp x (some q) (some m) (iI (P.length : Nat)) (iI V) ok x mc ms N1 := by
      intro ok N1 mc ms hq1 hmc hms hok
      unfold wX2_line_32
      refine ⟨_, _, _, _, hq1.2.1, _, _, _, _, hq1.2.1, 1, 8, by omega, by omega, c_mustE 5 (A : Nat) rfl rfl (by omega) (by omega) (fun e => ?_) (fun e y f1 f2 f3 f4 g hy fs hfs => bad hq1 ?_ hy)⟩
      · have ho : ¬ outP P V := fun c => e (hok.2 c)
        rw [show (60 : Int32) = iI 60 from rfl, iI_le (by omega) (by omega) (by omega) (by omega)]
        exact ⟨fun c => c52 0 N1 _ _ hq1 (by omega) (by omega) ho ⟨fun _ => by omega, fun _ => rfl⟩, fun c => c52 1 N1 _ _ hq1 (by omega) (by omega) ho ⟨fun e => absurd e (by decide), fun e => by omega⟩⟩
      · have ho := hok.1 e
        unfold lnRd
        by_cases h60 : P.length = 60
        · have c45 := h9 h60
          have hb1 : isNb T n p := hB.elim id (fun c => absurd c c45)
          rw [if_neg (fun z => z hB), if_pos h60, if_pos ⟨hb1, by rw [← hVp c45]; exact ho⟩, hAp c45]
        · rw [if_neg (fun z => z hB), if_neg h60, ← eA, if_neg (fun z => z hbn), ← eV, if_pos ho]
    refine c_isNumber (by omega) (fun v1 v2 => b_f (by decide) ⟨1, 1, by omega, by omega, c_box ⟨v1, v2⟩ (by omega) (by omega) (fun N2 r1 n2 i1 => ?_)⟩) (fun c => b_t rfl ?_)
    · have hq2 := hq1.nw n2
      obtain ⟨rt, sz, md, hm2⟩ := hq2.2.2.2.obj
      have i2 : iAt K N2 r1 (iI (-(-V))) := by rw [Int.neg_neg]; exact i1
      refine ⟨m, rfl, _, _, _, _, _, _, _, _, _, hm2, c_has hq2.2.2.2 i2 (by omega) (fun c => b_f (by decide) ?_) (fun c => b_t rfl ?_)⟩
      · unfold wX2_line_31
        have : V ∈ P := by rw [← Int.neg_neg V]; exact (hW (-V)).1 c
        exact c32 0 N2 _ _ hq2 (by omega) (by omega) ⟨fun _ => Or.inl this, fun _ => rfl⟩
      · have : V ∉ P := fun z => c ((hW (-V)).2 (by rw [Int.neg_neg]; exact z))
        exact c32 1 N2 _ _ hq2 (by omega) (by omega) ⟨fun e => absurd e (by decide), fun e => absurd e (fun z => z.elim this (fun z => z ⟨v1, v2⟩))⟩
    · unfold wX2_line_31
      exact c32 0 N1 _ _ hq1 (by omega) (by omega) ⟨fun _ => Or.inr c, fun _ => rfl⟩
end
