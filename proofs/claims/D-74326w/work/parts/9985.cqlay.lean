set_option maxRecDepth 100000
set_option maxHeartbeats 4000000
/-! queues beside the component's cells -/
section
variable {K : Nat → Nat → Nat} {a : Nat → Nat}
theorem cL.st {S : CS} {N N' : NM} (h : cL K a S N) (hn : ∀ i e, i < 28 → N (a i) = some e → N' (a i) = some e) : cL K a S N' := by
  have rf : ∀ i k n y, i < 28 → rfA N (a i) k n y → rfA N' (a i) k n y := fun i k n y hi ⟨f, h1, h2⟩ => ⟨f, hn i _ hi h1, h2⟩
  exact ⟨hn 0 _ (by omega) h.obj, hn 3 _ (by omega) h.slots, hn 6 _ (by omega) h.tape, hn 7 _ (by omega) h.cls, hn 8 _ (by omega) h.nxt, fun k hk => hn _ _ (by omega) (h.row hk), fun k hk => hn _ _ (by omega) (h.can hk), rf 1 _ _ _ (by omega) h.kinds, rf 2 _ _ _ (by omega) h.words, rf 4 _ _ _ (by omega) h.frm, rf 5 _ _ _ (by omega) h.layers, rf 9 _ _ _ (by omega) h.cans, h.2.2.2.2.2.2.2.2.2.2.2.2⟩
/-- a cell of a kind that is neither the component's nor a form's -/
def oth (N : NM) (x : Nat) : Prop := ∃ e, N x = some e ∧ fk e = 0 ∧ atK e = 0
theorem cF.fq {N N' : NM} {x y q : Nat} {ts : List tm} (h : cF K N q ts) (hf : fq x y N N') (hx : oth N x) (hy : oth N y) : cF K N' q ts := by
  obtain ⟨u, f, h1, h2, h3⟩ := h
  obtain ⟨e1, x1, x2, -⟩ := hx
  obtain ⟨e2, y1, y2, -⟩ := hy
  have n : ∀ z e, N z = some e → fk e = 1 → N' z = some e := fun z e z1 z2 => hf z e z1 (fun c => by rw [c, x1] at z1; cases z1; omega) (fun c => by rw [c, y1] at z1; cases z1; omega)
  refine ⟨u, f, n _ _ h1 rfl, n _ _ h2 rfl, fun i t ht => ?_⟩
  obtain ⟨z, z1, z2⟩ := h3 i t ht
  exact ⟨z, z1, n _ _ z2 rfl⟩
theorem cQ.fq {S0 S : CS} {N0 N N' : NM} {x y : Nat} (h : cQ K a S0 N0 S N) (hf : fq x y N N') (hx0 : N0 x = none) (hy0 : N0 y = none) (hx : oth N x) (hy : oth N y) : cQ K a S0 N0 S N' := by
  obtain ⟨h1, h2, h3, h4, h5, h6, h7, h8⟩ := h
  have ox : ∀ i, i < 28 → x ≠ a i := by obtain ⟨e, e1, -, e2⟩ := hx; exact h1.out e1 e2
  have oy : ∀ i, i < 28 → y ≠ a i := by obtain ⟨e, e1, -, e2⟩ := hy; exact h1.out e1 e2
  refine ⟨h1.st (fun i e hi he => hf _ e he (Ne.symm (ox i hi)) (Ne.symm (oy i hi))), fun q e q1 q2 => hf q e (h2 q e q1 q2) (fun c => by rw [c, hx0] at q1; cases q1) (fun c => by rw [c, hy0] at q1; cases q1), h3, h4, h5, h6, ?_, ?_⟩
  · rcases h7 with h | ⟨q, ts, c1, c2, c3, c4⟩
    · exact Or.inl h
    · exact Or.inr ⟨q, ts, c1, c2.fq hf hx hy, c3, c4⟩
  · rcases h8 with h | ⟨q, ts, c1, c2, c3, c4⟩
    · exact Or.inl h
    · exact Or.inr ⟨q, ts, c1, c2.fq hf hx hy, c3, c4⟩
theorem cQ.nw {S0 S : CS} {N0 N N' : NM} (h : cQ K a S0 N0 S N) (hn : nw N N') : cQ K a S0 N0 S N' := by
  obtain ⟨h1, h2, h3, h4, h5, h6, h7, h8⟩ := h
  exact ⟨h1.nw hn, h2.trans (hn.kp a), h3, h4, h5, h6, h7.same h1 (hn.kp a) rfl rfl, h8.same h1 (hn.kp a) rfl rfl⟩
/-- the field of the latest ranked -/
theorem cQ.ranked {S0 S : CS} {N0 N : NM} (h : cQ K a S0 N0 S N) (v : Option Nat) : cQ K a S0 N0 (cR S 18 v) (va_up N (a 0) (some (oT a (cR S 18 v)))) := by
  obtain ⟨h1, h2, h3, h4, h5, h6, h7, h8⟩ := h
  have k := (kp.refl a N).at (i := 0) (by omega) (oT a (cR S 18 v))
  refine ⟨h1.setV rfl, h2.at (by omega) _, h3, fun i q1 q2 q3 => ?_, h5, h6, h7.same h1 k (show va_up S.1.1 18 v 5 = S.1.1 5 from up_ne _ _ _ (by omega)) rfl, h8.same h1 k (show va_up S.1.1 18 v 6 = S.1.1 6 from up_ne _ _ _ (by omega)) rfl⟩
  rw [← h4 i q1 q2 q3]
  exact (show va_up S.1.1 18 v i = S.1.1 i from up_ne _ _ _ q3)
theorem pQn.oth {N : NM} {x ar cap n : Nat} {A : Nat → Prop} {ky : Nat → Int} (h : pQn N x ar cap n A ky) : oth N x ∧ oth N ar := by
  obtain ⟨⟨md, h1⟩, ⟨g, Q, h2, -⟩, -⟩ := h
  exact ⟨⟨_, h1, rfl, rfl⟩, ⟨_, h2, rfl, rfl⟩⟩
theorem pQr.oth {N : NM} {x ar cap n : Nat} {A : Nat → Prop} {ky : Nat → Int} (h : pQr N x ar cap n A ky) : oth N x ∧ oth N ar := by
  obtain ⟨⟨md, h1⟩, ⟨g, Q, h2, -⟩, -⟩ := h
  exact ⟨⟨_, h1, rfl, rfl⟩, ⟨_, h2, rfl, rfl⟩⟩
theorem kYr.oth {N : NM} {x : Nat} {κ : Int} (h : kYr N x κ) : oth N x := by
  obtain ⟨z, w, h1, -⟩ := h
  exact ⟨_, h1, rfl, rfl⟩
theorem pQr.st {N N' : NM} {x ar cap n : Nat} {A : Nat → Prop} {ky : Nat → Int} (h : pQr N x ar cap n A ky) (hs : ∀ z e, N z = some e → fk e = 0 → atK e = 0 → N' z = some e) : pQr N' x ar cap n A ky := by
  obtain ⟨⟨md, h1⟩, ⟨g, Q, h2, h3⟩, h4, h5⟩ := h
  refine ⟨⟨md, hs _ _ h1 rfl rfl⟩, ⟨g, Q, hs _ _ h2 rfl rfl, h3⟩, fun y hy => ?_, h5⟩
  obtain ⟨z, w, o1, o2⟩ := h4 y hy
  exact ⟨z, w, hs _ _ o1 rfl rfl, o2⟩
theorem pQn.st {N N' : NM} {x ar cap n : Nat} {A : Nat → Prop} {ky : Nat → Int} (h : pQn N x ar cap n A ky) (hs : ∀ z e, N z = some e → fk e = 0 → atK e = 0 → N' z = some e) : pQn N' x ar cap n A ky := by
  obtain ⟨⟨md, h1⟩, ⟨g, Q, h2, h3⟩, h4, h5⟩ := h
  refine ⟨⟨md, hs _ _ h1 rfl rfl⟩, ⟨g, Q, hs _ _ h2 rfl rfl, h3⟩, fun y hy => ?_, h5⟩
  obtain ⟨z, w, o1, o2⟩ := h4 y hy
  exact ⟨z, w, hs _ _ o1 rfl rfl, o2⟩
/-- a new queue -/
theorem c_newQ {post : Unit → NM → Prop} {MC MS : Nat} {N : NM} {x : Nat} (hx : N x = some (eO 21 [va_rf none, .int 0, va_rf none, .int 0])) (hMC : 1 ≤ MC) (hMS : 11 ≤ MS) (h : ∀ N' ar, N ar = none → fq x ar N N' → pQn N' x ar 11 0 (fun _ => False) (fun _ => 0) → pQr N' x ar 11 0 (fun _ => False) (fun _ => 0) → post () N') : wJ28_init K post MC MS N x := by
  unfold wJ28_init wJ28_init_2 wJ27_init wJ7_init
  refine ⟨MC, MS, Nat.le_refl _, Nat.le_refl _, fun _ => ⟨by decide, by decide, hMC, hMS, fun nq hnq N10 e10 => ?_⟩, fun c => absurd (by decide) c⟩
  subst e10
  have hne : x ≠ nq := fun e => by rw [e, hnq] at hx; cases hx
  refine ⟨_, _, _, _, by rw [up_ne _ _ _ hne]; exact hx, fun N18 e18 N22 e22 => ?_⟩
  rw [e18, up_up] at e22
  subst e22
  have o1 : va_up (va_up N nq (some (eR 8 11 (fun _ => none)))) x (some (eO 21 [va_rf (some nq), .int 0, va_rf none, .int 0])) nq = some (eR 8 11 (fun _ => none)) := by rw [up_ne _ _ _ (Ne.symm hne)]; exact up_eq _ _ _
  have hh : hSt 0 (fun _ => 0) (fun _ => False) := ⟨fun i j hi => by omega, fun z => ⟨fun c => c.elim, fun ⟨i, hi, _⟩ => by omega⟩⟩
  have hp : hP (fun _ => 0) 0 (fun _ => 0) := fun i _ hi => by omega
  refine h _ nq hnq (fun z e he z1 z2 => by rw [up_ne _ _ _ z1, up_ne _ _ _ z2]; exact he) ⟨⟨0, up_eq _ _ _⟩, ⟨_, _, o1, fun i hi => by omega, hh, hp⟩, fun y hy => hy.elim, by omega, by omega, by omega⟩ ⟨⟨0, up_eq _ _ _⟩, ⟨_, _, o1, fun i hi => by omega, hh, hp⟩, fun y hy => hy.elim, by omega, by omega, by omega⟩
end
