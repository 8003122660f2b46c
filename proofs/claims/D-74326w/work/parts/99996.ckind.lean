set_option maxRecDepth 100000
set_option maxHeartbeats 4000000
/-! the component's reader: kinds, the highest number of a term -/
/-- all cells but one stay; new ones may come -/
def kx (x : Nat) (N N' : NM) : Prop := ∀ z e, N z = some e → z ≠ x → N' z = some e
theorem kx.refl (x : Nat) (N : NM) : kx x N N := fun _ _ h _ => h
theorem kx.trans {x : Nat} {N N1 N2 : NM} (h : kx x N N1) (g : kx x N1 N2) : kx x N N2 := fun z e a b => g z e (h z e a b) b
theorem nw.kx {x : Nat} {N N' : NM} (h : nw N N') : kx x N N' := fun z e a _ => h z e a
theorem kx.at {x : Nat} {N N' : NM} (h : kx x N N') (e : Option NE) : kx x N (va_up N' x e) := fun z e' h1 h2 => by
  rw [up_ne _ _ _ h2]; exact h z e' h1 h2
theorem kx.new {x : Nat} {N N' : NM} (h : kx x N N') {q : Nat} (hq : N q = none) (e : NE) : kx x N (va_up N' q (some e)) := fun z e' h1 h2 => by
  rw [up_ne _ _ _ (fun w => by rw [w, hq] at h1; cases h1)]; exact h z e' h1 h2
theorem kx.none {x q : Nat} {N N' : NM} {e : NE} (h : kx x N N') (hx : N' x = some e) (hq : N' q = none) : N q = none := by
  cases c : N q with
  | none => rfl
  | some u =>
    have := h q u c (fun z => by rw [z, hx] at hq; cases hq)
    rw [hq] at this; cases this
def kdR (T : Nat → Int) (n p : Nat) : Nat → Int
  | 0 => -1
  | k + 1 => if wdIs T n p k then (k : Nat) else kdR T n p k
theorem sLen_k {t : Nat} (ht : t < 5) : 1 ≤ sLen.getD t 0 ∧ sLen.getD t 0 ≤ 6 := by
  have : ∀ t : Fin 5, 1 ≤ sLen.getD t.val 0 ∧ sLen.getD t.val 0 ≤ 6 := by decide +kernel
  exact this ⟨t, ht⟩
theorem wd_one {T : Nat → Int} {n p i j : Nat} (hi : i < 5) (hj : j < 5) (h1 : wdIs T n p i) (h2 : wdIs T n p j) : i = j := by
  have e1 := (wd_iff (T := T) (n := n) (p := p) (show i < 12 by omega) (sLen_k hi).1 (sLen_k hi).2).2 h1
  have e2 := (wd_iff (T := T) (n := n) (p := p) (show j < 12 by omega) (sLen_k hj).1 (sLen_k hj).2).2 h2
  rw [e1] at e2
  have : ∀ i j : Fin 5, wL i.val = wL j.val → i = j := by decide +kernel
  exact congrArg Fin.val (this ⟨i, hi⟩ ⟨j, hj⟩ e2)
theorem kdR_5 (T : Nat → Int) (n p : Nat) : kdR T n p 5 = kdAt T n p := by
  have e : ∀ i j, i < 5 → j < 5 → i ≠ j → wdIs T n p i → ¬ wdIs T n p j := fun i j hi hj h h1 h2 => h (wd_one hi hj h1 h2)
  show (if wdIs T n p 4 then ((4 : Nat) : Int) else if wdIs T n p 3 then ((3 : Nat) : Int) else if wdIs T n p 2 then ((2 : Nat) : Int) else if wdIs T n p 1 then ((1 : Nat) : Int) else if wdIs T n p 0 then ((0 : Nat) : Int) else -1) = if wdIs T n p 0 then 0 else if wdIs T n p 1 then 1 else if wdIs T n p 2 then 2 else if wdIs T n p 3 then 3 else if wdIs T n p 4 then 4 else -1
  by_cases c0 : wdIs T n p 0
  · simp only [if_pos c0, if_neg (e 0 1 (by omega) (by omega) (by omega) c0), if_neg (e 0 2 (by omega) (by omega) (by omega) c0), if_neg (e 0 3 (by omega) (by omega) (by omega) c0), if_neg (e 0 4 (by omega) (by omega) (by omega) c0)]
    rfl
  by_cases c1 : wdIs T n p 1
  · simp only [if_pos c1, if_neg c0, if_neg (e 1 2 (by omega) (by omega) (by omega) c1), if_neg (e 1 3 (by omega) (by omega) (by omega) c1), if_neg (e 1 4 (by omega) (by omega) (by omega) c1)]
    rfl
  by_cases c2 : wdIs T n p 2
  · simp only [if_pos c2, if_neg c0, if_neg c1, if_neg (e 2 3 (by omega) (by omega) (by omega) c2), if_neg (e 2 4 (by omega) (by omega) (by omega) c2)]
    rfl
  by_cases c3 : wdIs T n p 3
  · simp only [if_pos c3, if_neg c0, if_neg c1, if_neg c2, if_neg (e 3 4 (by omega) (by omega) (by omega) c3)]
    rfl
  by_cases c4 : wdIs T n p 4
  · simp only [if_pos c4, if_neg c0, if_neg c1, if_neg c2, if_neg c3]
    rfl
  simp only [if_neg c0, if_neg c1, if_neg c2, if_neg c3, if_neg c4]
theorem kdAt_wd {T : Nat → Int} {n p k : Nat} (h : kdAt T n p = (k : Nat)) : wdIs T n p k := by
  unfold kdAt at h
  split at h
  · rename_i c; rw [show k = 0 by omega]; exact c
  split at h
  · rename_i c; rw [show k = 1 by omega]; exact c
  split at h
  · rename_i c; rw [show k = 2 by omega]; exact c
  split at h
  · rename_i c; rw [show k = 3 by omega]; exact c
  split at h
  · rename_i c; rw [show k = 4 by omega]; exact c
  · omega
section
variable {K : Nat → Nat → Nat} {a : Nat → Nat}
theorem cL.kx {S : CS} {N N' : NM} {x p : Nat} {b d : Int32} (hL : cL K a S N) (hx : N x = some (rdr a p b d)) (h : kx x N N') : cL K a S N' :=
  (hL.off (hL.out hx rfl) (N' x)).nw (fun z e hz => by
    by_cases c : z = x
    · rw [c, up_eq] at hz; rw [c]; exact hz
    · rw [up_ne _ _ _ c] at hz; exact h z e hz c)
theorem c_mustE {post : Unit → NM → Prop} {xp : Nat → List Nat → NM → Prop} {MC MS x : Nat} {N : NM} {ok wv pv : Int32} (w p : Int) (hw : wv = iI w) (hp : pv = iI p) (hMC : 1 ≤ MC) (hMS : 8 ≤ MS) (h1 : ok ≠ 0 → post () N) (h0 : ok = 0 → ∀ q f1 f2 f3 f4 g, N q = none → xp q [q] (va_up N q (some (oWr f1 f2 f3 f4 g w p)))) : wX2_must K post xp MC MS N x ok wv pv := by
  subst hw hp
  exact c_must hMC hMS h1 h0
theorem c_kind {post : Int32 → NM → Prop} {S : CS} {N : NM} {T : Nat → Int} {n p x MC MS : Nat} {b d : Int32} (hL : cL K a S N) (hT : cTape S T n) (hx : N x = some (rdr a p b d)) (hp : p ≤ n) (hMC : 20 ≤ MC) (hMS : 200 ≤ MS) (h : ∀ N', nw N N' → post (iI (kdAt T n p)) N') : wX2_kind K post MC MS N x := by
  unfold wX2_kind
  refine ⟨6, ?_⟩
  rw [← kdR_5] at h
  have go : ∀ (m k mc ms : Nat) (N' : NM), k + m = 5 → nw N N' → 4 * m ≤ mc → 40 * m ≤ ms → wX2_kind_4 K post (m + 1) x (iI (kdR T n p k)) (iI (k : Nat)) mc ms N' := by
    intro m
    induction m with
    | zero =>
      intro k mc ms N' hk hn hmc hms
      have hL' := hL.nw hn
      obtain ⟨f, w1, w2⟩ := hL'.words
      unfold wX2_kind_4
      refine ⟨_, _, _, _, hn _ _ hx, _, rfl, _, _, _, _, _, _, _, _, _, _, _, _, _, _, _, _, _, _, _, hL'.obj, _, rfl, _, _, w1, ?_⟩
      rw [nI_i, iI_le (by omega) (by omega) (by omega) (by omega)]
      refine ⟨fun _ => ?_, fun c => absurd (by omega) c⟩
      rw [show k = 5 by omega]
      exact h N' hn
    | succ m ih =>
      intro k mc ms N' hk hn hmc hms
      have hL' := hL.nw hn
      obtain ⟨f, w1, w2⟩ := hL'.words
      unfold wX2_kind_4
      refine ⟨_, _, _, _, hn _ _ hx, _, rfl, _, _, _, _, _, _, _, _, _, _, _, _, _, _, _, _, _, _, _, hL'.obj, _, rfl, _, _, w1, ?_⟩
      rw [nI_i, iI_le (by omega) (by omega) (by omega) (by omega)]
      refine ⟨fun c => absurd c (by omega), fun _ => ⟨4, 40, by omega, by omega, c_seen hL' hT (hn _ _ hx) hp (by omega) (by omega) (fun N2 r v r0 v0 hn2 hs => ?_)⟩⟩
      have hn' := hn.trans hn2
      have hL2 := hL.nw hn'
      obtain ⟨g, u1, u2⟩ := hL2.words
      obtain ⟨f2, k1, k2, k3, k4⟩ := hs.kn (K := K)
      have key := seen_eq (show k < 12 by omega) k2 k3
      have hwd := wd_iff (T := T) (n := n) (p := p) (show k < 12 by omega) (sLen_k (show k < 5 by omega)).1 (sLen_k (show k < 5 by omega)).2
      refine ⟨_, _, _, _, hn' _ _ hx, _, rfl, _, _, _, _, _, _, _, _, _, _, _, _, _, _, _, _, _, _, _, hL2.obj, _, rfl, _, _, u1, iI_in (by omega) (by omega) (by omega), r, rfl, v, _, f2, k1, K 0 k, ?_, K 1 k, sLen.getD k 0, fun j => (sByt.getD k []).getD j 0, ⟨sLen_lt k, Or.inl ⟨k, show k < 12 by omega, rfl, rfl, rfl, rfl⟩⟩, fun r84 h84 => ?_⟩
      · rw [nat_i (by omega)]; exact u2 k (by omega)
      have nx := ih (k + 1) (mc - 4) (ms - 40) N2 (by omega) hn' (by omega) (by omega)
      have ek : iI ((k + 1 : Nat) : Int) = iI (k : Int) + 1 := by rw [show (1 : Int32) = iI 1 from rfl, iI_add]; rfl
      rw [ek] at nx
      rcases h84 with ⟨e, q⟩ | ⟨e, q⟩
      · subst e
        refine b_f (by decide) ?_
        have hw : wdIs T n p k := hwd.1 (key.1 q)
        rw [show kdR T n p (k + 1) = (k : Nat) by show (if wdIs T n p k then ((k : Nat) : Int) else kdR T n p k) = _; rw [if_pos hw]] at nx
        exact nx
      · subst e
        refine b_t rfl ?_
        have hw : ¬ wdIs T n p k := fun z => q (key.2 (hwd.2 z))
        rw [show kdR T n p (k + 1) = kdR T n p k by show (if wdIs T n p k then ((k : Nat) : Int) else kdR T n p k) = _; rw [if_neg hw]] at nx
        exact nx
  exact go 5 0 MC MS N rfl (nw.refl N) (by omega) (by omega)
/-- a term's value, bounds aside -/
theorem c_vl {post : Int64 → NM → Prop} {N : NM} {y k : Nat} {f x : Int} {g h : Int32} (hf : 1 ≤ f ∧ f ≤ 99) (hk : k < 5) (hy : N y = some (eO 6 [.int (iI f), .int g, .int h, va_rf (some (K 2 k))])) (h1 : -20000 ≤ x) (h2 : x ≤ 20000) (hp : post (lI (f * kV (k : Nat) x)) N) : wX4_value K post N y (lI x) := by
  unfold wX4_value
  refine ⟨_, _, _, _, hy, _, rfl, k, hk, rfl, ?_⟩
  have := kVal_eq (k := (k : Nat)) (x := x) (by omega) h1 h2
  rw [show ((k : Nat) : Int).toNat = k by omega] at this
  rw [this, iI_l (by omega) (by omega), lI_mul]
  exact hp
theorem c_highest {post : Int32 → NM → Prop} {N : NM} {x y k : Nat} {f : Int} {g h : Int32} (hf : 1 ≤ f ∧ f ≤ 99) (hk : k < 5) (hy : N y = some (eO 6 [.int (iI f), .int g, .int h, va_rf (some (K 2 k))])) (hp : post (iI (gtS f (k : Nat))) N) : wX2_highest K post N x (some y) := by
  unfold wX2_highest
  refine ⟨3001, ?_⟩
  have step : ∀ (m : Nat) (x : Int), 0 ≤ x → x ≤ 3000 → (3000 < f * kV (k : Nat) (x + 1) → post (iI x) N) → (¬ 3000 < f * kV (k : Nat) (x + 1) → wX2_highest_2 K post m (some y) (iI (x + 1)) N) → wX2_highest_2 K post (m + 1) (some y) (iI x) N := by
    intro m x hx hm h1 h2
    unfold wX2_highest_2
    refine ⟨_, rfl, _, _, _, _, hy, ?_⟩
    rw [show (1 : Int32) = iI 1 from rfl, iI_add, iI_l (by omega) (by omega)]
    refine c_vl hf hk hy (by omega) (by omega) ?_
    have hb := kV_le4 (k := (k : Nat)) (x := x + 1) (by omega) (by omega)
    have hb2 := abs_mul_le (show -99 ≤ f by omega) hf.2 hb.1 hb.2
    rw [show (3000 : Int64) = lI 3000 from rfl, lI_lt (by omega) (by omega) (by omega) (by omega)]
    exact ⟨h1, h2⟩
  have go : ∀ (m : Nat) (x : Int), 0 ≤ x → x + m = 3000 → post (iI (gtR f (k : Nat) (m + 1) x)) N → wX2_highest_2 K post (m + 1) (some y) (iI x) N := by
    intro m
    induction m with
    | zero =>
      intro x hx hm h
      refine step 0 x hx (by omega) (fun e => ?_) (fun e => absurd ?_ e)
      · unfold gtR at h; rw [if_pos e] at h; exact h
      · have h1 := kV_ge (k := (k : Nat)) (x := x + 1) (by omega)
        have h2 := Int.mul_le_mul_of_nonneg_right hf.1 (show 0 ≤ kV (k : Nat) (x + 1) by omega)
        omega
    | succ m ih =>
      intro x hx hm h
      unfold gtR at h
      refine step (m + 1) x hx (by omega) (fun e => ?_) (fun e => ?_)
      · rw [if_pos e] at h; exact h
      · rw [if_neg e] at h
        exact ih (x + 1) (by omega) (by omega) h
  exact go 3000 0 (by omega) (by omega) hp
theorem c_tmInit {post : Unit → NM → Prop} {N : NM} {y k : Nat} {f lo hi : Int} {g1 g2 g3 : Int32} {g4 : Option Nat} (hy : N y = some (eO 6 [.int g1, .int g2, .int g3, va_rf g4])) (h : post () (va_up N y (some (oTm K (f, (k : Nat), lo, hi))))) : wX4_init K post N y (iI f) (some (K 2 k)) (iI lo) (iI hi) := by
  unfold wX4_init
  refine ⟨_, _, _, _, hy, fun N6 e6 N9 e9 N12 e12 N15 e15 => ?_⟩
  rw [e6, up_up] at e9
  rw [e9, up_up] at e12
  rw [e12, up_up] at e15
  rw [e15]
  exact h
end
