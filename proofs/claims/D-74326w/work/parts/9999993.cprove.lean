set_option maxRecDepth 100000
set_option maxHeartbeats 4000000
/-! the component reads a proof -/
def thrO (N0 N' : NM) (y : Nat) (ch : List Nat) (k : Int) (pl : Nat) (o : Int) (i : Int) : Prop := ∃ r ch', ch = y :: ch' ∧ N0 y = none ∧ N' y = some (oOu r o) ∧ thr N0 N' r ch' k pl i
def prP (K : Nat → Nat → Nat) (a : Nat → Nat) (x : Nat) (S0 : CS) (N0 : NM) (R : (Int × Nat × Nat × Int) ⊕ List Int) (post : Int32 → NM → Prop) (xp : Nat → List Nat → NM → Prop) : Prop :=
  (∀ P, R = .inr P → ∀ S' N', pSt K a x S0 N0 S' N' → post (iI (P.length : Nat)) N') ∧
  (∀ k pl o i, R = .inl (k, pl, o, i) → ∀ S' N' y ch, pSt K a x S0 N0 S' N' → thrO N0 N' y ch k pl (o : Nat) i → xp y ch N')
section
variable {K : Nat → Nat → Nat} {a : Nat → Nat}
theorem thr.nw {N0 N N' : NM} {y : Nat} {ch : List Nat} {k : Int} {pl : Nat} {i : Int} (h : thr N0 N y ch k pl i) (hn : nw N N') : thr N0 N' y ch k pl i := by
  rcases h with ⟨h1, h2, h3, f1, f2, f3, f4, g, h4⟩ | ⟨r, f1, f2, f3, f4, g, h1, h2, h3, h4, h5⟩
  · exact Or.inl ⟨h1, h2, h3, f1, f2, f3, f4, g, hn _ _ h4⟩
  · exact Or.inr ⟨r, f1, f2, f3, f4, g, h1, h2, h3, hn _ _ h4, hn _ _ h5⟩
theorem thr.cell {N0 N : NM} {y : Nat} {ch : List Nat} {k : Int} {pl : Nat} {i : Int} (h : thr N0 N y ch k pl i) : ∃ u, N y = some u := by
  rcases h with ⟨h1, h2, h3, f1, f2, f3, f4, g, h4⟩ | ⟨r, f1, f2, f3, f4, g, h1, h2, h3, h4, h5⟩
  · exact ⟨_, h4⟩
  · exact ⟨_, h4⟩
theorem c_wrapO {xp : Nat → List Nat → NM → Prop} {N : NM} {q mc ms : Nat} {ch : List Nat} {o : Int} {ov : Int32} (eo : ov = iI o) (hmc : 1 ≤ mc) (hms : 7 ≤ ms) (h : ∀ N' y, nw N N' → dm N N' → N y = none → N' y = some (oOu q o) → xp y (y :: ch) N') : 1 ≤ mc ∧ 7 ≤ ms ∧ (∀ nq30, N nq30 = none → (∀ N32, N32 = va_up N nq30 (some (eO 5 [va_rf none, va_rf none, va_rf none, va_rf none, va_rf none, .int (0 : Int32), .int (0 : Int32)])) → (wX5_init K (fun _ N36 => ∃ f38 f39 f40 f41 f42 f43 f44, N36 nq30 = some (eO 5 [va_rf f38, va_rf f39, va_rf f40, va_rf f41, va_rf f42, .int f43, .int f44]) ∧ (xp nq30 (nq30 :: ch) N36)) N32 nq30 ov (some q)))) := by
  subst eo
  refine ⟨hmc, hms, fun y hy N32 e32 => c_outer (at_up e32) ?_⟩
  rw [e32, up_up]
  exact ⟨_, _, _, _, _, _, _, up_eq _ _ _, h _ y ((nw.refl N).new hy _) ((dm.rf N).up y _) hy (up_eq _ _ _)⟩
theorem pSt.nw {x : Nat} {S0 S : CS} {N0 N N' : NM} (h : pSt K a x S0 N0 S N) (hn : nw N N') (hd : dm N N') : pSt K a x S0 N0 S N' := by
  refine ⟨h.1.nw hn, h.2.1, ?_, fun z e h1 h2 h3 => hn _ _ (h.2.2.2.1 z e h1 h2 h3), h.2.2.2.2.tr hd⟩
  rcases h.2.2.1 with g | ⟨q, ts, h1, h2, h3, h4⟩
  · exact Or.inl g
  · exact Or.inr ⟨q, ts, h1, h2.nw hn, h3, h4⟩
/-- a thrown fault of a line is wrapped -/
theorem c_wrapL {xp : Nat → List Nat → NM → Prop} {post : Int32 → NM → Prop} {S0 S : CS} {N0 N : NM} {x y mc ms o : Nat} {ch : List Nat} {k i : Int} {pl : Nat} {R : (Int × Nat × Nat × Int) ⊕ List Int} {ov : Int32} (eo : ov = iI (o : Nat)) (hO : prP K a x S0 N0 R post xp) (eR : R = .inl (k, pl, o, i)) (hS : pSt K a x S0 N0 S N) (ht : thr N0 N y ch k pl i) (hmc : 1 ≤ mc) (hms : 7 ≤ ms) : 1 ≤ mc ∧ 7 ≤ ms ∧ (∀ nq30, N nq30 = none → (∀ N32, N32 = va_up N nq30 (some (eO 5 [va_rf none, va_rf none, va_rf none, va_rf none, va_rf none, .int (0 : Int32), .int (0 : Int32)])) → (wX5_init K (fun _ N36 => ∃ f38 f39 f40 f41 f42 f43 f44, N36 nq30 = some (eO 5 [va_rf f38, va_rf f39, va_rf f40, va_rf f41, va_rf f42, .int f43, .int f44]) ∧ (xp nq30 (nq30 :: ch) N36)) N32 nq30 ov (some y)))) :=
  c_wrapO eo hmc hms (fun N' q n1 d1 q0 hq => hO.2 k pl o i eR S N' q (q :: ch) (hS.nw n1 d1) ⟨y, ch, rfl, hS.2.2.2.2.no q0, hq, ht.nw n1⟩)
theorem c_pr17 {post : Int32 → NM → Prop} {xp : Nat → List Nat → NM → Prop} {S0 : CS} {N0 : NM} {T : Nat → Int} {n x q mp cmp : Nat} {d : Int32} {ts : List tm} (hK : kOk K) (hT0 : cTape S0 T n) (hv : vF ts) : ∀ (m p mc ms : Nat) (P : List Int) (W : List (Nat × Int)) (S : CS) (N : NM) (b : Int32), P.length + m = 60 → p ≤ n → lqS K a x mp cmp q d S0 N0 ts W p b S N → (∀ j, j ∈ W.map Prod.snd ↔ -j ∈ P) → 68 * (m + 1) + 10 ≤ mc → 500 * (m + 1) + 20 ≤ ms → prP K a x S0 N0 (if srt T n p = 0 then .inr P else prRd T n ts (m + 1) P p) post xp → wX2_proof_17 K post xp (m + 1) x (some q) mp (iI (P.length : Nat)) mc ms N := by
  have tape : ∀ {S' : CS} {N' : NM}, pSt K a x S0 N0 S' N' → cTape S' T n := fun {S' N'} h => by
    obtain ⟨t1, t2, t3⟩ := hT0
    refine ⟨t1, ?_, ?_⟩
    · rw [h.2.1.1]; exact t2
    · rw [h.2.1.2.2.2.1]; exact t3
  have ht8 := hT0.1
  have step : ∀ (m p mc ms : Nat) (P : List Int) (W : List (Nat × Int)) (S : CS) (N : NM) (b : Int32) (K17 : Nat → Option Nat → Nat → Int32 → Nat → Nat → NM → Prop), P.length + m = 60 → p < n → lqS K a x mp cmp q d S0 N0 ts W p b S N → (∀ j, j ∈ W.map Prod.snd ↔ -j ∈ P) → 68 * (m + 1) + 10 ≤ mc → 500 * (m + 1) + 20 ≤ ms → prP K a x S0 N0 (prRd T n ts (m + 1) P p) post xp →
      (∀ z p' mc' ms' W' S' N' b', P.length < 60 → p' ≤ n → lqS K a x mp cmp q d S0 N0 ts W' p' b' S' N' → (∀ j, j ∈ W'.map Prod.snd ↔ -j ∈ P ++ [z]) → mc ≤ mc' + 68 → ms ≤ ms' + 500 → prRd T n ts (m + 1) P p = (if srt T n p' = 0 then .inr (P ++ [z]) else prRd T n ts m (P ++ [z]) p') → K17 x (some q) mp (iI (P.length : Nat) + 1) mc' ms' N') → ∀ ok : Int32, (ok = 0 → P.length = 60 ∧ sgIs T n p 45) → (ok ≠ 0 → P.length = 60 → ¬ sgIs T n p 45) → wX2_proof_45 K K17 post xp x (some q) mp (iI (P.length : Nat)) ok x mc ms N := by
    intro m p mc ms P W S N b K17 hPm hp hq hW hmc hms hO nx ok hok0 hok1
    have eS : ∀ R, lnRd T n ts P p = R → prRd T n ts (m + 1) P p = (match R with | .inl (k, q, i) => .inl (k, q, P.length, i) | .inr (z, p') => if srt T n p' = 0 then .inr (P ++ [z]) else prRd T n ts m (P ++ [z]) p') := fun R e => by
      rw [← e]; rfl
    unfold wX2_proof_45
    refine ⟨_, _, _, _, hq.2.1, _, _, _, _, hq.2.1, 1, 8, by omega, by omega, c_mustE 9 (p : Nat) rfl rfl (by omega) (by omega) (fun e => ?_) (fun e y f1 f2 f3 f4 g hy fs hfs => ?_)⟩
    · refine ⟨_, _, _, _, hq.2.1, 64, 480, by omega, by omega, c_rdLine hK hT0 hv hq (by omega) hW (by omega) (hok1 e) (by omega) (by omega) (fun z p0 S1 N1 W1 b1 eR hp0 hq1 hW1 hlt => ?_) (fun k pl i eR S1 N1 y ch hS1 ht => ?_)⟩
      · refine ⟨_, _, _, _, hq1.2.1, 1, 8, by omega, by omega, ?_⟩
        rw [show (59 : Int32) = iI 59 from rfl]
        refine c_asks hq1.1.1 (tape hq1.1) hq1.2.1 hp0 (by omega) (by omega) (by omega) (fun c1 c2 => ?_) (fun c y f1 f2 f3 f4 g hy fs hfs => ?_)
        · have c59 : sgIs T n p0 59 := (sgIs_iff (by decide)).2 ⟨c1, c2⟩
          have eL : lnRd T n ts P p = .inr (z, sk T n (p0 + 1)) := by rw [eR]; unfold lnE; rw [if_neg (fun c => c c59), nxT_sg c59]
          exact nx z (sk T n (p0 + 1)) _ _ W1 S1 _ b1 hlt (sk_le (by omega)).2 (hq1.kx ((kx.refl x N1).at _) (up_eq _ _ _)) hW1 (by omega) (by omega) (eS _ eL)
        · have c59 : ¬ sgIs T n p0 59 := fun z => c ((sgIs_iff (by decide)).1 z)
          have eL : lnRd T n ts P p = .inl (1, p0, -1) := by rw [eR]; unfold lnE; rw [if_pos c59]
          have n1 := (nw.refl N1).new hy (oWr f1 f2 f3 f4 g 1 (p0 : Nat))
          exact c_wrapL rfl hO (eS _ eL) (hq1.1.nw n1 ((dm.rf N1).up y _)) (Or.inl ⟨rfl, rfl, hq1.1.2.2.2.2.no hy, f1, f2, f3, f4, g, up_eq _ _ _⟩) (by omega) (by omega)
      · exact ⟨fun fs hfs => c_wrapL rfl hO (eS _ eR) hS1 ht (by omega) (by omega), fun fs hfs => c_wrapL rfl hO (eS _ eR) hS1 ht (by omega) (by omega)⟩
    · obtain ⟨h60, c45⟩ := hok0 e
      have nb : ¬ isNb T n p := fun z => by have h1 := z.1; have h2 := c45.1; omega
      have eL : lnRd T n ts P p = .inl (9, p, -1) := by
        unfold lnRd
        rw [if_neg (fun z => z (Or.inr c45)), if_pos h60, if_neg (fun z => nb z.1)]
      have n1 := (nw.refl N).new hy (oWr f1 f2 f3 f4 g 9 (p : Nat))
      exact c_wrapL rfl hO (eS _ eL) (hq.1.nw n1 ((dm.rf N).up y _)) (Or.inl ⟨rfl, rfl, hq.1.2.2.2.2.no hy, f1, f2, f3, f4, g, up_eq _ _ _⟩) (by omega) (by omega)
  have head : ∀ (m p mc ms : Nat) (P : List Int) (W : List (Nat × Int)) (S : CS) (N : NM) (b : Int32), P.length + m = 60 → p ≤ n → lqS K a x mp cmp q d S0 N0 ts W p b S N → (∀ j, j ∈ W.map Prod.snd ↔ -j ∈ P) → 68 * (m + 1) + 10 ≤ mc → 500 * (m + 1) + 20 ≤ ms → prP K a x S0 N0 (if srt T n p = 0 then .inr P else prRd T n ts (m + 1) P p) post xp →
      (∀ z p' mc' ms' W' S' N' b', P.length < 60 → p' ≤ n → lqS K a x mp cmp q d S0 N0 ts W' p' b' S' N' → (∀ j, j ∈ W'.map Prod.snd ↔ -j ∈ P ++ [z]) → mc ≤ mc' + 68 → ms ≤ ms' + 500 → prP K a x S0 N0 (if srt T n p' = 0 then .inr (P ++ [z]) else prRd T n ts m (P ++ [z]) p') post xp → wX2_proof_17 K post xp m x (some q) mp (iI (P.length : Nat) + 1) mc' ms' N') → wX2_proof_17 K post xp (m + 1) x (some q) mp (iI (P.length : Nat)) mc ms N := by
    intro m p mc ms P W S N b hPm hp hq hW hmc hms hO nx
    unfold wX2_proof_17
    have hL := hq.1.1
    have hT := tape hq.1
    refine ⟨_, _, _, _, hq.2.1, c_isOver hL hT hq.2.1 (by omega) (fun c => b_f (by decide) ?_) (fun c => b_t rfl ?_)⟩
    · rw [if_pos (by unfold srt; rw [if_pos c])] at hO
      exact hO.1 P rfl S N hq.1
    · have s0 : ¬ srt T n p = 0 := by
        unfold srt; rw [if_neg (by omega)]; split
        · omega
        · split <;> omega
      rw [if_neg s0] at hO
      have st := step m p mc ms P W S N b (fun x0 x1 x2 x3 mc ms N => wX2_proof_17 K post xp m x0 x1 x2 x3 mc ms N) hPm c hq hW hmc hms hO (fun z p' mc' ms' W' S' N' b' h1 h2 h3 h4 h5 h6 h7 => nx z p' mc' ms' W' S' N' b' h1 h2 h3 h4 h5 h6 (by rw [h7] at hO; exact hO))
      rw [show (60 : Int32) = iI 60 from rfl, iI_lt (by omega) (by omega) (by omega) (by omega)]
      refine ⟨fun c1 => ?_, fun c1 => ⟨_, _, _, _, hq.2.1, c_here hL hT hq.2.1 (by omega) ?_⟩⟩
      · unfold wX2_proof_40
        exact st 1 (fun e => absurd e (by decide)) (fun _ h => by omega)
      · have hcc := hT.sg p
        have e45 : chr T n p = 45 ↔ sgIs T n p 45 := by
          rw [sgIs_iff (by decide)]
          unfold chr
          rw [if_pos c]; exact ⟨fun e => ⟨c, e⟩, fun e => e.2⟩
        rw [show (45 : Int32) = iI 45 from rfl, iI_eq (by omega) (by omega) (by omega) (by omega), e45]
        refine ⟨fun c2 => st 0 (fun _ => ⟨by omega, c2⟩) (fun e => absurd rfl e), fun c2 => ?_⟩
        unfold wX2_proof_40
        exact st 1 (fun e => absurd e (by decide)) (fun _ _ => c2)
  intro m
  induction m with
  | zero =>
    intro p mc ms P W S N b hPm hp hq hW hmc hms hO
    exact head 0 p mc ms P W S N b hPm hp hq hW hmc hms hO (fun z p' mc' ms' W' S' N' b' hlt => by omega)
  | succ m ih =>
    intro p mc ms P W S N b hPm hp hq hW hmc hms hO
    refine head (m + 1) p mc ms P W S N b hPm hp hq hW hmc hms hO (fun z p' mc' ms' W' S' N' b' hlt h2 h3 h4 h5 h6 h7 => ?_)
    have e : iI (P.length : Int) + 1 = iI (((P ++ [z]).length : Nat) : Int) := by rw [show (1 : Int32) = iI 1 from rfl, iI_add, List.length_append]; rfl
    rw [e]
    exact ih p' mc' ms' (P ++ [z]) W' S' N' b' (by rw [List.length_append, List.length_singleton]; omega) h2 h3 h4 (by omega) (by omega) h7
/-- a proof is read -/
theorem c_rdProof {post : Int32 → NM → Prop} {xp : Nat → List Nat → NM → Prop} {S : CS} {N : NM} {T : Nat → Int} {n x p q MC MS : Nat} {b d : Int32} {ts : List tm} (hK : kOk K) (hT : cTape S T n) (hL : cL K a S N) (hc : cLaid K S N) (hx : N x = some (rdr a p b d)) (hp : p ≤ n) (hF : cF K N q ts) (hv : vF ts) (hMC : 4200 ≤ MC) (hMS : 31000 ≤ MS) (hO : prP K a x S N (if srt T n p = 0 then .inr [] else prRd T n ts 61 [] p) post xp) : wX2_proof K post xp MC MS N x (some q) := by
  unfold wX2_proof wX7_init
  refine ⟨by omega, by omega, fun mp hmp N5 e5 => ⟨by omega, by omega, fun cmp hcmp N12 e12 => ?_⟩⟩
  have mc : mp ≠ cmp := fun c => by rw [← c, e5, up_eq] at hcmp; cases hcmp
  have cmp0 : N cmp = none := by rw [e5, up_ne _ _ _ (Ne.symm mc)] at hcmp; exact hcmp
  refine c_mapNew (at_ne e12 mc (at_up e5)) ⟨61, ?_⟩
  have n1 : nw N (va_up N12 mp (some (oMp cmp none 0 0))) := by
    rw [e12, e5]
    exact (((nw.refl N).new hmp _).new cmp0 _).new hmp _
  have hm : (va_up N12 mp (some (oMp cmp none 0 0))) mp = some (oMp cmp none 0 0) := up_eq _ _ _
  have hcm : (va_up N12 mp (some (oMp cmp none 0 0))) cmp = some (eO 13 []) := by rw [up_ne _ _ _ (Ne.symm mc)]; exact at_up e12
  obtain ⟨N1, eN1⟩ : ∃ N1, N1 = va_up N12 mp (some (oMp cmp none 0 0)) := ⟨_, rfl⟩
  rw [← eN1] at n1 hm hcm ⊢
  have x1 := n1 _ _ hx
  have hM : tM K N N1 mp cmp [] := ⟨none, 0, 0, hm, tT.nil, fun g e => (by cases e), fun z => by
    show on1 mp z + 0 ≤ 1
    unfold on1; split <;> omega, hcm, List.Pairwise.nil, hmp, fun z hz => (by cases hz)⟩
  have hS : pSt K a x S N S N := ⟨hL, lyEq.refl S, hc, fun z e h _ _ => h, dm.rf N⟩
  exact c_pr17 hK hT hv 60 p _ _ [] [] S N1 b rfl hp ⟨hS.nw n1 (n1.kx.dm x1), x1, hF.nw n1, hM⟩ (fun j => ⟨fun c => (by cases c), fun c => (by cases c)⟩) (by omega) (by omega) hO
theorem lyEq.fin {S S' : CS} {v : Option Nat} (h : lyEq (cR S 11 none) S') : lyEq (cN (cR S 11 v) 13 0) (cN (cR S' 11 v) 13 0) := by
  refine ⟨?_, fun k hk => ?_, h.2.2.1, h.2.2.2.1, h.2.2.2.2.1, h.2.2.2.2.2⟩
  · show va_up S'.1.2 13 0 = va_up S.1.2 13 0
    rw [h.1]; rfl
  · show va_up S'.1.1 11 v k = va_up S.1.1 11 v k
    by_cases c : k = 11
    · rw [c, up_eq, up_eq]
    · rw [up_ne _ _ _ c, up_ne _ _ _ c, h.2.1 k hk]
      exact up_ne _ _ _ c
theorem cLaid.fin {S : CS} {N : NM} (h : cLaid K S N) (v : Option Nat) : cLaid K (cN (cR S 11 v) 13 0) N := by
  have e5 : (cN (cR S 11 v) 13 0).1.1 5 = S.1.1 5 := show va_up S.1.1 11 v 5 = S.1.1 5 from up_ne _ _ _ (by omega)
  rcases h with g | ⟨q, ts, h1, h2, h3, h4⟩
  · exact Or.inl (by rw [e5]; exact g)
  · exact Or.inr ⟨q, ts, by rw [e5]; exact h1, h2, h3, h4⟩
theorem cLaid.kp {S : CS} {N N' : NM} (hL : cL K a S N) (h : cLaid K S N) (hk : kp a N N') : cLaid K S N' := by
  rcases h with g | ⟨q, ts, h1, h2, h3, h4⟩
  · exact Or.inl g
  · exact Or.inr ⟨q, ts, h1, h2.kp hL hk, h3, h4⟩
theorem thrO.kp {S : CS} {N0 N N' : NM} {y : Nat} {ch : List Nat} {k : Int} {pl : Nat} {o i : Int} (hL : cL K a S N) (h : thrO N0 N y ch k pl o i) (hk : kp a N N') : thrO N0 N' y ch k pl o i := by
  obtain ⟨r, ch', e, y0, hy, ht⟩ := h
  refine ⟨r, ch', e, y0, hk _ _ hy (hL.out hy rfl), ?_⟩
  rcases ht with ⟨h1, h2, h3, f1, f2, f3, f4, g, h4⟩ | ⟨r, f1, f2, f3, f4, g, h1, h2, h3, h4, h5⟩
  · exact Or.inl ⟨h1, h2, h3, f1, f2, f3, f4, g, hk _ _ h4 (hL.out h4 rfl)⟩
  · exact Or.inr ⟨r, f1, f2, f3, f4, g, h1, h2, h3, hk _ _ h4 (hL.out h4 rfl), hk _ _ h5 (hL.out h5 rfl)⟩
theorem thr.dm {N0 N N' : NM} {y : Nat} {ch : List Nat} {k : Int} {pl : Nat} {i : Int} (h : thr N N' y ch k pl i) (hd : ∀ q, N q = none → N0 q = none) : thr N0 N' y ch k pl i := by
  rcases h with ⟨h1, h2, h3, h4⟩ | ⟨r, f1, f2, f3, f4, g, h1, h2, h3, h4⟩
  · exact Or.inl ⟨h1, h2, hd _ h3, h4⟩
  · exact Or.inr ⟨r, f1, f2, f3, f4, g, h1, hd _ h2, hd _ h3, h4⟩
theorem c_prove {post : Int32 → List Nat → NM → Prop} {S : CS} {N : NM} {T : Nat → Int} {F : Nat → List tm} {n MC MS : Nat} {s : Int} (hK : kOk K) (hL : cL K a S N) (hT : cTape S T n) (hF : cSlots K S N F) (hc : cLaid K S N) (hs : i32 s) (hMC : 4300 ≤ MC) (hMS : 32000 ≤ MS)
    (h0 : ¬ (0 ≤ s ∧ s ≤ 3 ∧ F s.toNat ≠ []) → ∀ S' N', cL K a S' N' → kp a N N' → lyEq (cN (cR S 11 none) 13 0) S' → cLaid K S' N' → post (-2) [] N')
    (h1 : ∀ d : Nat, d < 4 → s = d → F d ≠ [] → ∀ k pl o i, prR T n (F d) = .inl (k, pl, o, i) → ∀ S' N' y ch, cL K a S' N' → kp a N N' → lyEq (cN (cR S 11 (some y)) 13 0) S' → cLaid K S' N' → thrO N N' y ch k pl (o : Nat) i → post (-1) ch N')
    (h2 : ∀ d : Nat, d < 4 → s = d → F d ≠ [] → ∀ P, prR T n (F d) = .inr P → ∀ S' N', cL K a S' N' → kp a N N' → lyEq (cN (cR S 11 none) 13 0) S' → cLaid K S' N' → post (iI (P.length : Nat)) [] N') : wX0_prove K post MC MS N (a 0) (iI s) := by
  unfold wX0_prove
  refine ⟨_, _, _, _, _, _, _, _, _, _, _, _, _, _, _, _, _, _, _, hL.obj, fun N21 e21 => ?_⟩
  have e21 : N21 = va_up N (a 0) (some (oT a (cR S 11 none))) := e21
  have hL1 : cL K a (cR S 11 none) N21 := by rw [e21]; exact hL.setV rfl
  have k1 : kp a N N21 := by rw [e21]; exact (kp.refl a N).at (by omega) _
  have hT1 : cTape (cR S 11 none) T n := hT
  have hF1 : cSlots K (cR S 11 none) N21 F := hF.kp hL k1 rfl
  have hc1 : cLaid K (cR S 11 none) N21 := by
    have e5 : (cR S 11 none).1.1 5 = S.1.1 5 := show va_up S.1.1 11 none 5 = S.1.1 5 from up_ne _ _ _ (by omega)
    rcases hc.kp hL k1 with g | ⟨q, ts, h1, h2, h3, h4⟩
    · exact Or.inl (by rw [e5]; exact g)
    · exact Or.inr ⟨q, ts, by rw [e5]; exact h1, h2, h3, h4⟩
  have fin : ∀ (r : Int32) (mc ms : Nat) (S' : CS) (N' : NM), cL K a S' N' → kp a N N' → lyEq (cR S 11 none) S' → cLaid K S' N' → (∀ S'' N'', cL K a S'' N'' → kp a N N'' → lyEq (cN (cR S 11 none) 13 0) S'' → cLaid K S'' N'' → post r [] N'') → wX0_prove_32 K post (a 0) r mc ms N' := by
    intro r mc ms S' N' hL' k' l' c' h
    unfold wX0_prove_32
    refine ⟨_, _, _, _, _, _, _, _, _, _, _, _, _, _, _, _, _, _, _, hL'.obj, fun N53 e53 => ?_⟩
    have e11 : S'.1.1 11 = none := by rw [l'.2.1 11 (by omega)]; exact show va_up S.1.1 11 none 11 = none from up_eq _ _ _
    have eS : cR S' 11 none = S' := by
      unfold cR
      have : va_up S'.1.1 11 none = S'.1.1 := funext (fun k => by
        by_cases c : k = 11
        · rw [c, up_eq, e11]
        · exact up_ne _ _ _ c)
      rw [this]
    have e53 : N53 = va_up N' (a 0) (some (oT a (cN S' 13 0))) := e53
    have k4 := (kp.refl a N').at (i := 0) (by omega) (oT a (cN S' 13 0))
    have lf := lyEq.fin (v := none) l'
    have cf := (c'.kp hL' k4).fin none
    rw [eS] at lf cf
    rw [e53]
    exact h _ _ (hL'.setV rfl) (k'.trans k4) lf cf
  refine ⟨3, 210, by omega, by omega, c_at hL1 hF1 hs (by omega) (by omega) (fun hno => ⟨fun _ => fin (-2) _ _ _ _ hL1 k1 (lyEq.refl _) hc1 (h0 hno), fun _ e => (by cases e)⟩) (fun d q hd es hne hq hf hv => ⟨fun e => (by cases e), fun q' eq' => ⟨by omega, by omega, fun x hx N60 e60 => c_newR hL1 hT1 hx e60 ?_⟩⟩)⟩
  cases eq'
  have hx0 : N x = none := by
    cases e : N x with
    | none => rfl
    | some u => have := k1 x u e (hL1.outN hx); rw [hx] at this; cases this
  have hL2 : cL K a (cR S 11 none) (va_up N21 x (some (rdr a (sk T n 0) 0 0))) := hL1.off (hL1.outN hx) _
  have x2 := up_eq N21 x (some (rdr a (sk T n 0) 0 0))
  have n2 : nw N21 (va_up N21 x (some (rdr a (sk T n 0) 0 0))) := (nw.refl N21).new hx _
  have k2 : kp a N (va_up N21 x (some (rdr a (sk T n 0) 0 0))) := k1.new hx0 _
  have d2 : ∀ q, va_up N21 x (some (rdr a (sk T n 0) 0 0)) q = none → N q = none := fun q hq => by
    cases e : N q with
    | none => rfl
    | some u =>
      exfalso
      by_cases ho : ∀ i, i < 28 → q ≠ a i
      · rw [k2 q u e ho] at hq; cases hq
      · have : ∃ i, i < 28 ∧ q = a i := Classical.byContradiction (fun c => ho (fun i hi e => c ⟨i, hi, e⟩))
        obtain ⟨i, hi, ei⟩ := this
        exact hL2.outN hq i hi ei
  have hc2 : cLaid K (cR S 11 none) (va_up N21 x (some (rdr a (sk T n 0) 0 0))) := hc1.kp hL1 (n2.kp a)
  have hf2 := hf.nw n2
  obtain ⟨N2, eN2⟩ : ∃ N2, N2 = va_up N21 x (some (rdr a (sk T n 0) 0 0)) := ⟨_, rfl⟩
  rw [← eN2] at hL2 x2 k2 d2 hc2 hf2 ⊢
  have kpo : ∀ {S' : CS} {N' : NM}, pSt K a x (cR S 11 none) N2 S' N' → kp a N N' := fun {S' N'} h z e hz ho => h.2.2.2.1 z e (k2 z e hz ho) ho (fun c => by rw [c, hx0] at hz; cases hz)
  refine ⟨_, _, _, _, x2, MC - 3 - 1, MS - 210 - 4, by omega, by omega, c_rdProof hK hT1 hL2 hc2 x2 (sk_le (Nat.zero_le n)).2 hf2 hv (by omega) (by omega) ⟨fun P hR S' N' hS => ?_, fun k pl o i hR S' N' y ch hS ht fs hfs => ?_⟩⟩
  · exact fin _ _ _ S' N' hS.1 (kpo hS) hS.2.1 hS.2.2.1 (h2 d hd es hne P hR)
  · refine ⟨_, _, _, _, _, _, _, _, _, _, _, _, _, _, _, _, _, _, _, hS.1.obj, fun N74 e74 N77 e77 => ?_⟩
    have e77 : N77 = va_up N' (a 0) (some (oT a (cN (cR S' 11 (some y)) 13 0))) := by rw [e77, e74, up_up]; rfl
    have k4 := (kp.refl a N').at (i := 0) (by omega) (oT a (cN (cR S' 11 (some y)) 13 0))
    have ht' := ht.kp hS.1 k4
    rw [e77]
    obtain ⟨r, ch', ec, y0, hy, htt⟩ := ht'
    exact h1 d hd es hne k pl o i hR _ _ y ch (hS.1.setV rfl) ((kpo hS).trans k4) (lyEq.fin hS.2.1) ((hS.2.2.1.kp hS.1 k4).fin _) ⟨r, ch', ec, d2 y y0, hy, htt.dm d2⟩
end
