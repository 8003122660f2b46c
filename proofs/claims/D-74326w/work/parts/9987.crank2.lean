set_option maxRecDepth 100000
set_option maxHeartbeats 4000000
/-! the component: rank -/
section
variable {K : Nat → Nat → Nat} {a : Nat → Nat}
/-- what a queue's array may yet cost -/
def qB (cap bc bs : Nat) : Prop := (cap = 11 ∧ 5 ≤ bc ∧ 558 ≤ bs) ∨ (cap = 24 ∧ 4 ≤ bc ∧ 534 ≤ bs) ∨ (cap = 50 ∧ 3 ≤ bc ∧ 484 ≤ bs) ∨ (cap = 102 ∧ 2 ≤ bc ∧ 382 ≤ bs) ∨ (cap = 153 ∧ 1 ≤ bc ∧ 229 ≤ bs) ∨ cap = 229
theorem qG_v {cap bc bs : Nat} (h : qB cap bc bs) : (cap = 11 ∧ qG cap = 24 ∧ 5 ≤ bc ∧ 558 ≤ bs) ∨ (cap = 24 ∧ qG cap = 50 ∧ 4 ≤ bc ∧ 534 ≤ bs) ∨ (cap = 50 ∧ qG cap = 102 ∧ 3 ≤ bc ∧ 484 ≤ bs) ∨ (cap = 102 ∧ qG cap = 153 ∧ 2 ≤ bc ∧ 382 ≤ bs) ∨ (cap = 153 ∧ qG cap = 229 ∧ 1 ≤ bc ∧ 229 ≤ bs) ∨ cap = 229 := by
  rcases h with ⟨rfl, b⟩ | ⟨rfl, b⟩ | ⟨rfl, b⟩ | ⟨rfl, b⟩ | ⟨rfl, b⟩ | b
  · exact Or.inl ⟨rfl, rfl, b⟩
  · exact Or.inr (Or.inl ⟨rfl, rfl, b⟩)
  · exact Or.inr (Or.inr (Or.inl ⟨rfl, rfl, b⟩))
  · exact Or.inr (Or.inr (Or.inr (Or.inl ⟨rfl, rfl, b⟩)))
  · exact Or.inr (Or.inr (Or.inr (Or.inr (Or.inl ⟨rfl, rfl, b⟩))))
  · exact Or.inr (Or.inr (Or.inr (Or.inr (Or.inr b))))
/-- a queue grows -/
theorem qB.grow {cap bc bs : Nat} (h : qB cap bc bs) (hc : cap ≠ 229) : ∃ bc' bs', qB (qG cap) bc' bs' ∧ bc' + 1 ≤ bc ∧ bs' + qG cap ≤ bs := by
  rcases h with ⟨rfl, b⟩ | ⟨rfl, b⟩ | ⟨rfl, b⟩ | ⟨rfl, b⟩ | ⟨rfl, b⟩ | b
  · exact ⟨4, 534, Or.inr (Or.inl ⟨rfl, by omega, by omega⟩), by omega, by have : qG 11 = 24 := rfl; omega⟩
  · exact ⟨3, 484, Or.inr (Or.inr (Or.inl ⟨rfl, by omega, by omega⟩)), by omega, by have : qG 24 = 50 := rfl; omega⟩
  · exact ⟨2, 382, Or.inr (Or.inr (Or.inr (Or.inl ⟨rfl, by omega, by omega⟩))), by omega, by have : qG 50 = 102 := rfl; omega⟩
  · exact ⟨1, 229, Or.inr (Or.inr (Or.inr (Or.inr (Or.inl ⟨rfl, by omega, by omega⟩)))), by omega, by have : qG 102 = 153 := rfl; omega⟩
  · exact ⟨0, 0, Or.inr (Or.inr (Or.inr (Or.inr (Or.inr rfl)))), by omega, by have : qG 153 = 229 := rfl; omega⟩
  · exact absurd b hc
theorem kYr_n {N : NM} {u : Nat} {w : Int → Int} {z : Int} (h : kYr N u (kzR w z)) (h1 : -15000 ≤ z) (h2 : z ≤ 15000) : N u = some (eO 15 [.int (iI z), .long (lI (w z))]) := by
  obtain ⟨z', w', o1, o2, o3, o4, o5, o6⟩ := h
  unfold kzR at o6
  have e1 : z' = z := by omega
  have e2 : w' = w z := by omega
  rw [o1, e1, e2]
theorem c_rank_97 {post : Int32 → NM → Prop} {S0 : CS} {N0 : NM} {w : Int → Int} {x y i : Int} {xq ar cap mc ms : Nat} (hx : -3000 ≤ x) (hy : y ≤ 3000) (hi : 0 ≤ i ∧ i ≤ y - x) (hx0 : N0 xq = none) (ha0 : N0 ar = none)
    (h : ∀ S' N', cQ K a S0 N0 S' N' → post (iI (rankS w x y i)) N') : ∀ (m : Nat) (j : Int) (S : CS) (N : NM) (rem : Int → Bool) (A : Nat → Prop) (ky : Nat → Int), j + m = i → 0 ≤ j → cQ K a S0 N0 S N → pQr N xq ar cap (y - x + 1 - j).toNat A ky → rQ w x y rem A ky → ctR rem (y - x + 1).toNat x = j → wX0_rank_97 K post (m + 1) (a 0) (iI i) xq (iI j) mc ms N := by
  have fin : ∀ (S : CS) (N : NM) (rem : Int → Bool) (A : Nat → Prop) (ky : Nat → Int), cQ K a S0 N0 S N → pQr N xq ar cap (y - x + 1 - i).toNat A ky → rQ w x y rem A ky → ctR rem (y - x + 1).toNat x = i → ∀ u, A u → (∀ z, A z → ky u ≤ ky z) → ∃ z, N u = some (eO 15 [.int (iI z), .long (lI (w z))]) ∧ post (iI z) N := by
    intro S N rem A ky hQ hq hr hc u hu hm
    obtain ⟨z, z1, z2, z3, z4⟩ := hr.1 u hu
    have o := hq.2.2.1 u hu
    rw [z4] at o
    refine ⟨z, kYr_n o (by omega) (by omega), ?_⟩
    have e : rankS w x y i = z := by
      refine rank_uniq ?_ z1 z2 _ x (by omega) (by omega) (by omega)
      rw [aheadR_ct, Int.zero_add, ← hc]
      refine ctR_congr _ _ (fun o o1 o2 => ?_)
      rw [Bool.eq_iff_iff, decide_eq_true_eq]
      refine ⟨fun c => ?_, fun c => ?_⟩
      · cases er : rem o with
        | true => rfl
        | false =>
          obtain ⟨v, v1, v2⟩ := hr.2.1 o o1 (by omega) er
          have := hm v v1
          rw [v2, z4] at this
          unfold kzR at this
          omega
      · have := hr.2.2.1 o o1 (by omega) c u hu
        rw [z4] at this
        unfold kzR at this
        omega
    rw [← e]
    exact h S N hQ
  intro m
  induction m with
  | zero =>
    intro j S N rem A ky hj hj0 hQ hq hr hc
    have ej : j = i := by omega
    subst ej
    unfold wX0_rank_97
    refine b_t (by simp (disch := omega) only [iLit, lLit, iI_add, iI_sub, iI_mul, iI_neg, lI_add, lI_sub, lI_mul, lI_neg, nI_i, lI_i, iI_l, iI_nat, iI_lt, iI_le, iI_eq, lI_lt, lI_le, lI_eq] <;> omega) ?_
    have hq' := hq
    obtain ⟨⟨md, q1⟩, -⟩ := hq'
    refine ⟨_, _, _, _, q1, ?_⟩
    rw [show (y - x + 1 - j).toNat = (y - x - j).toNat + 1 by omega] at hq
    refine c_peekr hq (fun u hu hm => ?_)
    rw [show (y - x - j).toNat + 1 = (y - x + 1 - j).toNat by omega] at hq
    obtain ⟨z, o1, o2⟩ := fin S N rem A ky hQ hq hr hc u hu hm
    exact ⟨u, rfl, _, _, o1, o2⟩
  | succ m ih =>
    intro j S N rem A ky hj hj0 hQ hq hr hc
    unfold wX0_rank_97
    refine b_f (by simp (disch := omega) only [iLit, lLit, iI_add, iI_sub, iI_mul, iI_neg, lI_add, lI_sub, lI_mul, lI_neg, nI_i, lI_i, iI_l, iI_nat, iI_lt, iI_le, iI_eq, lI_lt, lI_le, lI_eq] <;> omega) ?_
    have hq' := hq
    obtain ⟨⟨md, q1⟩, -⟩ := hq'
    refine ⟨_, _, _, _, q1, ?_⟩
    have hoth := hq.oth
    rw [show (y - x + 1 - j).toNat = (y - x + 1 - (j + 1)).toNat + 1 by omega] at hq
    refine c_pollr hq (fun N' u hu hm hq2 hf => ?_)
    obtain ⟨z, z1, z2, z3, z4⟩ := hr.1 u hu
    have o := hq.2.2.1 u hu
    have n1 : u ≠ xq := o.ob q1
    have n2 : u ≠ ar := by obtain ⟨-, ⟨g, Q, h2, -⟩, -⟩ := hq; exact o.ar h2
    rw [z4] at o
    have o1 := kYr_n o (by omega) (by omega)
    have hQ' := hQ.fq hf hx0 ha0 hoth.1 hoth.2
    refine ⟨u, rfl, _, _, hf u _ o1 n1 n2, _, _, _, _, _, _, _, _, _, _, _, _, _, _, _, _, _, _, _, hQ'.1.obj, fun N94 e94 => ?_⟩
    subst e94
    simp only [iLit, iI_add]
    have hQ2 := hQ'.ranked (some u)
    refine ih (j + 1) _ _ (ctU rem z) _ ky (by omega) (by omega) hQ2 (hq2.st (fun q e q1 q2 q3 => ?_)) (hr.poll hu hm z4 (by omega) (by omega) z1 z2) ?_
    · rw [up_ne _ _ _ (fun c => by rw [c, hQ'.1.obj] at q1; cases q1; cases q3)]; exact q1
    · rw [ctR_up _ _ z1 (by omega) z3, hc]
theorem c_rank_59 {post : Int32 → NM → Prop} {S0 : CS} {N0 : NM} {ts : List tm} {x y i : Int} {xq q : Nat} (hK : kOk K) (hv : vF ts) (hL0 : cL K a S0 N0) (hF : cF K N0 q ts) (hx : -3000 ≤ x) (hy : y ≤ 3000) (hxy : y - x < 200) (hi : 0 ≤ i ∧ i ≤ y - x) (hx0 : N0 xq = none)
    (h : ∀ S' N', cQ K a S0 N0 S' N' → post (iI (rankS (Wy ts) x y i)) N') : ∀ (m : Nat) (k : Int) (S : CS) (N : NM) (ar cap mc ms bc bs : Nat) (A : Nat → Prop) (ky : Nat → Int), k + m = y + 1 → x ≤ k → cQ K a S0 N0 S N → N0 ar = none → pQr N xq ar cap (k - x).toNat A ky → rQ (Wy ts) x (k - 1) (fun _ => false) A ky → qB cap bc bs → m + bc ≤ mc → 2 * m + bs ≤ ms → wX0_rank_59 K post (m + 1) (a 0) (iI y) (iI i) (some q) xq (iI k) mc ms N := by
  intro m
  induction m with
  | zero =>
    intro k S N ar cap mc ms bc bs A ky hk hxk hQ har hq hr hb hmc hms
    have ek : k = y + 1 := by omega
    subst ek
    unfold wX0_rank_59
    refine b_t (by simp (disch := omega) only [iLit, lLit, iI_add, iI_sub, iI_mul, iI_neg, lI_add, lI_sub, lI_mul, lI_neg, nI_i, lI_i, iI_l, iI_nat, iI_lt, iI_le, iI_eq, lI_lt, lI_le, lI_eq] <;> omega) ⟨i.toNat + 1, ?_⟩
    rw [show y + 1 - 1 = y by omega] at hr
    have := c_rank_97 (K := K) (a := a) (mc := mc) (ms := ms) hx hy hi hx0 har h i.toNat 0 S N (fun _ => false) A ky (by omega) (by omega) hQ (by rw [show y - x + 1 - 0 = y + 1 - x by omega]; exact hq) hr ?_
    · exact this
    · have : ∀ (m : Nat) (o : Int), ctR (fun _ => false) m o = 0 := fun m => by
        induction m with
        | zero => intro o; rfl
        | succ m ih => intro o; unfold ctR; rw [ih]; rfl
      exact this _ _
  | succ m ih =>
    intro k S N ar cap mc ms bc bs A ky hk hxk hQ har hq hr hb hmc hms
    unfold wX0_rank_59
    refine b_f (by simp (disch := omega) only [iLit, lLit, iI_add, iI_sub, iI_mul, iI_neg, lI_add, lI_sub, lI_mul, lI_neg, nI_i, lI_i, iI_l, iI_nat, iI_lt, iI_le, iI_eq, lI_lt, lI_le, lI_eq] <;> omega) ⟨by omega, by omega, fun nq hnq N102 e102 => ?_⟩
    subst e102
    have n1 := (nw.refl N).new hnq (eO 15 [.int 0, .long 0])
    have hQ1 := hQ.nw n1
    have hq1 := hq.st (N' := va_up N nq (some (eO 15 [.int 0, .long 0]))) (fun z e z1 _ _ => n1 z e z1)
    have hF1 : cF K (va_up N nq (some (eO 15 [.int 0, .long 0]))) q ts := hF.kp hL0 hQ1.2.1
    refine ⟨_, _, _, _, _, _, _, _, _, _, _, _, _, _, _, _, _, _, _, hQ1.1.obj, ?_⟩
    refine c_waysOf hK hQ1.1 hF1 hv hQ1.2.2.2.2.2.2.1 (by omega) (fun S' N106 g1 g2 g3 g4 g5 => ?_)
    have hW : cW K a S (va_up N nq (some (eO 15 [.int 0, .long 0]))) S' N106 := ⟨g1, g2, g3, Or.inr ⟨q, ts, g4, hF1.kp hQ1.1 g2, hv, g5⟩⟩
    have hQ2 := hQ1.trans (hW.Q hQ1.1 hQ1.2.2.2.2.2.2.2)
    have st2 : ∀ z e, va_up N nq (some (eO 15 [.int 0, .long 0])) z = some e → fk e = 0 → atK e = 0 → N106 z = some e := fun z e z1 _ z3 => g2 z e z1 (hQ1.1.out z1 z3)
    have hq2 := hq1.st st2
    have onq := st2 nq _ (up_eq _ _ _) rfl rfl
    have nq0 : N0 nq = none := by
      cases e : N0 nq with
      | none => rfl
      | some v =>
        by_cases c : ∀ i, i < 28 → nq ≠ a i
        · have := hQ.2.1 nq v e c; rw [hnq] at this; cases this
        · exact absurd (hQ.1.outN hnq) c
    unfold wX16_init
    refine ⟨_, _, onq, fun N4 e4 N7 e7 => ?_⟩
    rw [e4, up_up] at e7
    subst e7
    have hA : ¬ A nq := fun hA => by
      obtain ⟨z, w, o1, -⟩ := hq.2.2.1 nq hA
      rw [hnq] at o1; cases o1
    have f3 : fq nq nq N106 (va_up N106 nq (some (eO 15 [.int (iI k), .long (lI (Wy ts k))]))) := fun z e z1 z2 _ => by rw [up_ne _ _ _ z2]; exact z1
    have hQ3 := hQ2.fq f3 nq0 nq0 ⟨_, onq, rfl, rfl⟩ ⟨_, onq, rfl, rfl⟩
    have xne : xq ≠ nq := fun e => hq.size.1 (by rw [e]; exact hnq)
    have ane : ar ≠ nq := fun e => hq.size.2.1 (by rw [e]; exact hnq)
    have hq3 : pQr (va_up N106 nq (some (eO 15 [.int (iI k), .long (lI (Wy ts k))]))) xq ar cap (k - x).toNat A ky := by
      obtain ⟨⟨md, q1⟩, ⟨g, Q, q2, q3⟩, q4, q5⟩ := hq2
      exact ⟨⟨md, by rw [up_ne _ _ _ xne]; exact q1⟩, ⟨g, Q, by rw [up_ne _ _ _ ane]; exact q2, q3⟩, fun u hu => (q4 u hu).up (fun e => hA (by rw [← e]; exact hu)) _, q5⟩
    have hky : kYr (va_up N106 nq (some (eO 15 [.int (iI k), .long (lI (Wy ts k))]))) nq (kzR (Wy ts) k) := ⟨k, Wy ts k, up_eq _ _ _, by omega, by omega, Wy_nn ts k, Wy_lt hv k, rfl⟩
    have hoth := hq3.oth
    obtain ⟨md, q1⟩ := hq3.1
    have hn5 := hq3.2.2.2.1
    refine ⟨_, _, _, _, q1, ?_⟩
    have hrn : rQ (Wy ts) x (k + 1 - 1) (fun _ => false) (fun z => A z ∨ z = nq) (va_up ky nq (kzR (Wy ts) k)) := by
      obtain ⟨r1, r2, r3, r4⟩ := hr
      have hkA : ∀ u, A u → va_up ky nq (kzR (Wy ts) k) u = ky u := fun u hu => up_ne _ _ _ (fun e => hA (by rw [← e]; exact hu))
      refine ⟨fun u hu => ?_, fun z z1 z2 _ => ?_, fun z _ _ e => (by cases e), fun u v hu hv' e => ?_⟩
      · rcases hu with hu | hu
        · obtain ⟨z, z1, z2, z3, z4⟩ := r1 u hu
          exact ⟨z, z1, by omega, rfl, by rw [hkA u hu]; exact z4⟩
        · exact ⟨k, hxk, by omega, rfl, by rw [hu, up_eq]⟩
      · by_cases c : z = k
        · exact ⟨nq, Or.inr rfl, by rw [c, up_eq]⟩
        · obtain ⟨u, u1, u2⟩ := r2 z z1 (by omega) rfl
          exact ⟨u, Or.inl u1, by rw [hkA u u1]; exact u2⟩
      · have key : ∀ u, A u → ky u ≠ kzR (Wy ts) k := fun u hu e => by
          obtain ⟨z, z1, z2, z3, z4⟩ := r1 u hu
          rw [z4] at e
          have := kzR_inj (by omega) (by omega) (by omega) (by omega) e
          omega
        rcases hu with hu | hu <;> rcases hv' with hv' | hv'
        · rw [hkA u hu, hkA v hv'] at e; exact r4 u v hu hv' e
        · rw [hkA u hu, hv', up_eq] at e; exact absurd e (key u hu)
        · rw [hkA v hv', hu, up_eq] at e; exact absurd e.symm (key v hv')
        · rw [hu, hv']
    by_cases hfull : cap = (k - x).toNat
    · refine ⟨1, qG cap, ?_, ?_, ?_⟩
      · rcases hb with b | b | b | b | b | b <;> omega
      · have := qG_v hb; omega
      · refine c_addr hq3 hky hA (fun _ => ⟨by omega, by omega, Nat.le_refl _⟩) (fun N' ar' cap' k1 k2 k3 k4 => ?_)
        have har' : N0 ar' = none := by
          rcases k3 with k3 | k3
          · rw [k3]; exact har
          · cases e : N0 ar' with
            | none => rfl
            | some v =>
              by_cases c : ∀ i, i < 28 → ar' ≠ a i
              · have := hQ3.2.1 ar' v e c; rw [k3] at this; cases this
              · exact absurd (hQ3.1.outN k3) c
        rw [show (1 : Int32) = iI 1 from rfl, iI_add]
        have hb' : ∃ bc' bs', qB cap' bc' bs' ∧ m + bc' ≤ mc - 1 - 1 ∧ 2 * m + bs' ≤ ms - 2 - qG cap := by
          rcases k4 with ⟨-, k4⟩ | ⟨k4, -⟩
          · rw [k4]
            obtain ⟨bc', bs', b1, b2, b3⟩ := hb.grow (by omega)
            exact ⟨bc', bs', b1, by omega, by omega⟩
          · exact absurd hfull k4
        obtain ⟨bc', bs', b1, b2, b3⟩ := hb'
        refine ih (k + 1) S' N' ar' cap' _ _ bc' bs' _ _ (by omega) (by omega) (hQ3.fq k2 hx0 har hoth.1 hoth.2) har' (by rw [show (k + 1 - x).toNat = (k - x).toNat + 1 by omega]; exact k1) hrn b1 b2 b3
    · refine ⟨0, 0, Nat.zero_le _, Nat.zero_le _, ?_⟩
      refine c_addr hq3 hky hA (fun c => absurd c hfull) (fun N' ar' cap' k1 k2 k3 k4 => ?_)
      rw [show (1 : Int32) = iI 1 from rfl, iI_add]
      have hc' : cap' = cap := by rcases k4 with ⟨k4, -⟩ | ⟨-, k4⟩; exact absurd k4 hfull; exact k4
      have har' : N0 ar' = none := by
        rcases k3 with k3 | k3
        · rw [k3]; exact har
        · cases e : N0 ar' with
          | none => rfl
          | some v =>
            by_cases c : ∀ i, i < 28 → ar' ≠ a i
            · have := hQ3.2.1 ar' v e c; rw [k3] at this; cases this
            · exact absurd (hQ3.1.outN k3) c
      rw [hc'] at k1
      refine ih (k + 1) S' N' ar' cap _ _ bc bs _ _ (by omega) (by omega) (hQ3.fq k2 hx0 har hoth.1 hoth.2) har' (by rw [show (k + 1 - x).toNat = (k - x).toNat + 1 by omega]; exact k1) hrn hb (by omega) (by omega)
theorem noneK {N0 N : NM} {S : CS} (hL : cL K a S N) (hk : kp a N0 N) {q : Nat} (hq : N q = none) : N0 q = none := by
  cases e : N0 q with
  | none => rfl
  | some v =>
    have := hk q v e (hL.outN hq); rw [hq] at this; cases this
theorem c_rank {post : Int32 → NM → Prop} {MC MS : Nat} {S : CS} {N : NM} {F : Nat → List tm} {z x y i : Int} (hK : kOk K) (hL : cL K a S N) (hF : cSlots K S N F) (hc : cLaid K S N) (hu : cUnl K S N) (hz : i32 z) (hx : i32 x) (hy : i32 y) (hi : i32 i) (hMC : 300 ≤ MC) (hMS : 2000 ≤ MS)
    (h0 : ¬ (0 ≤ z ∧ z ≤ 3 ∧ F z.toNat ≠ [] ∧ -3000 ≤ x ∧ x ≤ y ∧ y ≤ 3000 ∧ y - x < 200 ∧ 0 ≤ i ∧ i ≤ y - x) → post (iI (-100000)) N) (h1 : ∀ (s : Nat) S' N', s < 4 → z = s → F s ≠ [] → -3000 ≤ x → x ≤ y → y ≤ 3000 → y - x < 200 → 0 ≤ i → i ≤ y - x → cQ K a S N S' N' → post (iI (rankS (Wy (F s)) x y i)) N') : wX0_rank K post MC MS N (a 0) (iI z) (iI x) (iI y) (iI i) := by
  unfold wX0_rank
  refine ⟨_, _, _, _, _, _, _, _, _, _, _, _, _, _, _, _, _, _, _, hL.obj, 3, 210, by omega, by omega, ?_⟩
  refine c_at hL hF hz (by omega) (by omega) (fun hn => ⟨fun _ => h0 (fun w => hn ⟨w.1, w.2.1, w.2.2.1⟩), fun a28 e => by cases e⟩) (fun s q hs ez hne hsl hf hv => ⟨fun e => (by cases e), fun a28 _ => ?_⟩)
  refine c_isSpan hx hy (fun n1 n2 n3 => b_f (by decide) ?_) (fun hc => b_t rfl (h0 (fun z => hc (by omega))))
  simp (disch := omega) only [iLit, lLit, iI_add, iI_sub, iI_mul, iI_neg, lI_add, lI_sub, lI_mul, lI_neg, nI_i, lI_i, iI_le, iI_l]
  refine ⟨fun c => h0 (by omega), fun c => ?_⟩
  refine c_isIn (b := 0) (by omega) (by omega) (by omega) (fun q1 q2 => b_f (by decide) ?_) (fun hc => b_t rfl (h0 (fun z => hc (by omega))))
  refine ⟨by omega, by omega, fun nq hnq N39 e39 => ?_⟩
  subst e39
  have n1' := (nw.refl N).new hnq (eO 21 [va_rf none, .int 0, va_rf none, .int 0])
  have hQ1 := (cQ.start hL hc hu).nw n1'
  refine ⟨1, 11, by omega, by omega, ?_⟩
  refine c_newQ (up_eq _ _ _) (by omega) (by omega) (fun N' ar har0' hf1 _ hq => ⟨(y - x + 1).toNat + 1, ?_⟩)
  have har : va_up N nq (some (eO 21 [va_rf none, .int 0, va_rf none, .int 0])) ar = none := har0'
  have oth1 : oth (va_up N nq (some (eO 21 [va_rf none, .int 0, va_rf none, .int 0]))) nq := ⟨_, up_eq _ _ _, rfl, rfl⟩
  have hf2 : fq nq nq (va_up N nq (some (eO 21 [va_rf none, .int 0, va_rf none, .int 0]))) N' := fun w e he w1 _ => hf1 w e he w1 (fun c => by rw [c, har] at he; cases he)
  have hQ2 := hQ1.fq hf2 hnq hnq oth1 oth1
  have har0 : N ar = none := noneK hQ1.1 hQ1.2.1 har
  refine c_rank_59 hK hv hL hf (by omega) (by omega) (by omega) ⟨q1, q2⟩ hnq (fun S' N'' k => h1 s S' N'' hs ez hne n1 n2 n3 (by omega) q1 q2 k) _ x S N' ar 11 _ _ 5 558 _ _ (by omega) (by omega) hQ2 har0 (by rw [show (x - x).toNat = 0 by omega]; exact hq) ⟨fun u hu => False.elim hu, fun w w1 w2 => by omega, fun w w1 w2 => by omega, fun u v hu => False.elim hu⟩ (Or.inl ⟨rfl, by omega, by omega⟩) (by omega) (by omega)
end
