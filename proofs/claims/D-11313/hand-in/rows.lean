section
/-! the loops of the class as functions with fuel, and: what the function answers is what the walk hands to its post -/
def kf_im (g k : Int32) : Int32 := (g >>> ((3 * k) &&& 31)) &&& 7
def kf_in : Nat → Int32 → Int32 → Int32 → Int32 → Option Int32
  | 0 => fun _ _ _ _ => none
  | n + 1 => fun x2 x3 x4 x5 => if 6 ≤ x5 then (if x3 = 63 then (if x4 = 0 then some x2 else some (-1)) else some (-1)) else kf_in n (x2 ||| ((x4 - x4 / 6 * 6) <<< ((3 * x5) &&& 31))) (x3 ||| ((1 : Int32) <<< ((x4 - x4 / 6 * 6) &&& 31))) (x4 / 6) (x5 + 1)
def kf_bo (g h : Int32) : Nat → Int32 → Int32 → Option Int32
  | 0 => fun _ _ => none
  | n + 1 => fun x3 x4 => if 6 ≤ x4 then some x3 else kf_bo g h n (x3 ||| (kf_im h (kf_im g x4) <<< ((3 * x4) &&& 31))) (x4 + 1)
def kf_s24 (g : Int32) : Nat → Int32 → Int32 → Int32 → Int32 → Option (Int32 × Int32)
  | 0 => fun _ _ _ _ => none
  | n + 1 => fun x2 x5 x6 x7 => if 6 ≤ x7 then some (x2, x5) else (if ((x2 >>> (x6 &&& 31)) &&& 1) = 0 then kf_s24 g n (x2 ||| ((1 : Int32) <<< (x6 &&& 31))) (x5 + 1) (kf_im g x6) (x7 + 1) else some (x2, x5))
def kf_add (x3 y5 : Int32) : Int32 := if y5 ≤ 0 then x3 else x3 + ((1 : Int32) <<< (((4 * y5) - 4) &&& 31))
def kf_s7 (g : Int32) : Nat → Int32 → Int32 → Int32 → Option Int32
  | 0 => fun _ _ _ => none
  | n + 1 => fun x2 x3 x4 => if 6 ≤ x4 then some x3 else (match kf_s24 g 7 x2 0 x4 0 with
    | none => none
    | some q => kf_s7 g n q.1 (kf_add x3 q.2) (x4 + 1))
def kf_all (s : Int32) : Nat → Int32 → Int32 → Option Int32
  | 0 => fun _ _ => none
  | n + 1 => fun x2 x3 => if 6 < x3 then some x2 else kf_all s n (x2 + ((s >>> (((4 * x3) - 4) &&& 31)) &&& 15)) (x3 + 1)
def kf_out (g : Int32) : Nat → Int32 → Int32 → Option Int32
  | 0 => fun _ _ => none
  | n + 1 => fun x2 x3 => if x3 < 0 then some x2 else kf_out g n ((x2 * 6) + kf_im g x3) (x3 + (-1))
section
variable {c1 c2 c3 c4 c5 : Int32} {a1 a2 a3 a4 a5 a6 : Nat → Int32} {post : Int32 → Prop} {r : Int32}
theorem ck_none {α : Type} {x : α} (h : (none : Option α) = some x) : False := absurd h.symm (Option.some_ne_none x)
theorem ck_ite {α : Type} {p : Prop} {_ : Decidable p} {a b x : α} (h : ite p a b = x) : (p → a = x) ∧ (¬ p → b = x) := ⟨fun z => by rw [if_pos z] at h; exact h, fun z => by rw [if_neg z] at h; exact h⟩
theorem ck_cl1 : (1 : Int32).toNatClampNeg = 1 := by decide
theorem ck_some {α : Type} {P : α → Prop} {x y : α} (h : some x = some y) (hp : P y) : P x := (Option.some.inj h) ▸ hp
theorem ck_image {u : St2} {p0 p1 : Int32} (h : post (kf_im p0 p1)) : wpX_image post u p0 p1 := by
  obtain ⟨c1, c2, c3, c4, c5, a1, a2, a3, a4, a5, a6⟩ := u
  exact h
theorem ck_cyc {u : St2} {p0 p1 : Int32} (h : post ((p0 >>> (((4 * p1) - 4) &&& 31)) &&& 15)) : wpX_cyclesOf post u p0 p1 := by
  obtain ⟨c1, c2, c3, c4, c5, a1, a2, a3, a4, a5, a6⟩ := u
  exact h
theorem ck_in10 (hp : post r) : ∀ (n : Nat) (x2 x3 x4 x5 : Int32), kf_in n x2 x3 x4 x5 = some r → wX_inside_10 post c1 c2 c3 c4 c5 a1 a2 a3 a4 a5 a6 n x2 x3 x4 x5 := by
  intro n
  induction n with
  | zero => exact fun _ _ _ _ h => (ck_none h).elim
  | succ n ih =>
    intro x2 x3 x4 x5 h
    have k := ck_ite h
    refine br_c (fun z => ?_) (fun z => ?_)
    · have k2 := ck_ite (k.1 z)
      refine br_c (fun z2 => ?_) (fun z2 => ck_some (P := post) (k2.2 z2) hp)
      have k3 := ck_ite (k2.1 z2)
      exact br_c (fun z3 => ck_some (P := post) (k3.1 z3) hp) (fun z3 => ck_some (P := post) (k3.2 z3) hp)
    · replace h := k.2 z
      exact ⟨by decide, nm_e ⟨by decide, nm_e (nm_e (nm_e (nm_e (ih _ _ _ _ h))))⟩⟩
theorem ck_inside {u : St2} {p0 : Int32} (h : kf_in 7 0 0 p0 0 = some r) (hp : post r) : wpX_inside post u p0 := by
  obtain ⟨c1, c2, c3, c4, c5, a1, a2, a3, a4, a5, a6⟩ := u
  exact ⟨7, ck_in10 hp 7 0 0 p0 0 h⟩
theorem ck_bo5 {g g2 : Int32} (hp : post r) : ∀ (n : Nat) (x3 x4 : Int32), kf_bo g g2 n x3 x4 = some r → wX_both_5 post g g2 c1 c2 c3 c4 c5 a1 a2 a3 a4 a5 a6 n x3 x4 := by
  intro n
  induction n with
  | zero => exact fun _ _ h => (ck_none h).elim
  | succ n ih =>
    intro x3 x4 h
    have k := ck_ite h
    refine br_c (fun z => ?_) (fun z => ?_)
    · exact ck_some (P := post) (k.1 z) hp
    · replace h := k.2 z
      exact ck_image (ck_image (nm_e (nm_e (ih _ _ h))))
theorem ck_both {u : St2} {g g2 : Int32} (h : kf_bo g g2 7 0 0 = some r) (hp : post r) : wpX_both post u g g2 := by
  obtain ⟨c1, c2, c3, c4, c5, a1, a2, a3, a4, a5, a6⟩ := u
  exact ⟨7, ck_bo5 hp 7 0 0 h⟩
theorem ck_s65 {J7 : Int32 → Int32 → Int32 → Prop} {g y2 y5 x3 x4 : Int32} (H : J7 y2 (kf_add x3 y5) (x4 + 1)) : wX_shapeOf_65 post J7 g y2 x3 x4 y5 c1 c2 c3 c4 c5 a1 a2 a3 a4 a5 a6 := by
  unfold kf_add at H
  refine br_c (fun z => ?_) (fun z => ?_)
  · rw [if_pos z] at H
    exact nm_e H
  · rw [if_neg z] at H
    exact nm_e (nm_e H)
theorem ck_s24 {J7 : Int32 → Int32 → Int32 → Prop} {g x3 x4 : Int32} {q : Int32 × Int32} (H : J7 q.1 (kf_add x3 q.2) (x4 + 1)) : ∀ (n : Nat) (x2 x5 x6 x7 : Int32), kf_s24 g n x2 x5 x6 x7 = some q → wX_shapeOf_24 post J7 g x3 x4 c1 c2 c3 c4 c5 a1 a2 a3 a4 a5 a6 n x2 x5 x6 x7 := by
  intro n
  induction n with
  | zero => exact fun _ _ _ _ h => (ck_none h).elim
  | succ n ih =>
    intro x2 x5 x6 x7 h
    have k := ck_ite h
    refine br_c (fun z => ?_) (fun z => ?_)
    · have e := Option.some.inj (k.1 z)
      subst e
      exact ck_s65 H
    · have k2 := ck_ite (k.2 z)
      refine br_c (fun z2 => ?_) (fun z2 => ?_)
      · exact nm_e (ck_image (nm_e (nm_e (ih _ _ _ _ (k2.1 z2)))))
      · have e := Option.some.inj (k2.2 z2)
        subst e
        exact ck_s65 H
theorem ck_s7 {g : Int32} (hp : post r) : ∀ (n : Nat) (x2 x3 x4 : Int32), kf_s7 g n x2 x3 x4 = some r → wX_shapeOf_7 post g c1 c2 c3 c4 c5 a1 a2 a3 a4 a5 a6 n x2 x3 x4 := by
  intro n
  induction n with
  | zero => exact fun _ _ _ h => (ck_none h).elim
  | succ n ih =>
    intro x2 x3 x4 h
    have k := ck_ite h
    refine br_c (fun z => ?_) (fun z => ?_)
    · exact ck_some (P := post) (k.1 z) hp
    · replace h := k.2 z
      have h' : (match kf_s24 g 7 x2 0 x4 0 with | none => none | some q => kf_s7 g n q.1 (kf_add x3 q.2) (x4 + 1)) = some r := h
      generalize hq : kf_s24 g 7 x2 0 x4 0 = o at h'
      clear h k
      cases o with
      | none => exact (ck_none h').elim
      | some q => exact ⟨7, ck_s24 (ih _ _ _ h') 7 x2 0 x4 0 hq⟩
theorem ck_shape {u : St2} {g : Int32} (h : kf_s7 g 7 0 0 0 = some r) (hp : post r) : wpX_shapeOf post u g := by
  obtain ⟨c1, c2, c3, c4, c5, a1, a2, a3, a4, a5, a6⟩ := u
  exact ⟨7, ck_s7 hp 7 0 0 0 h⟩
theorem ck_all4 {s : Int32} (hp : post r) : ∀ (n : Nat) (x2 x3 : Int32), kf_all s n x2 x3 = some r → wX_allCycles_4 post s c1 c2 c3 c4 c5 a1 a2 a3 a4 a5 a6 n x2 x3 := by
  intro n
  induction n with
  | zero => exact fun _ _ h => (ck_none h).elim
  | succ n ih =>
    intro x2 x3 h
    have k := ck_ite h
    refine br_c (fun z => ?_) (fun z => ?_)
    · exact ck_some (P := post) (k.1 z) hp
    · replace h := k.2 z
      exact ck_cyc (nm_e (nm_e (ih _ _ h)))
theorem ck_all {u : St2} {s : Int32} (h : kf_all s 7 0 1 = some r) (hp : post r) : wpX_allCycles post u s := by
  obtain ⟨c1, c2, c3, c4, c5, a1, a2, a3, a4, a5, a6⟩ := u
  exact ⟨7, ck_all4 hp 7 0 1 h⟩
theorem ck_out4 {g : Int32} (hp : post r) : ∀ (n : Nat) (x2 x3 : Int32), kf_out g n x2 x3 = some r → wX_outside_4 post g c1 c2 c3 c4 c5 a1 a2 a3 a4 a5 a6 n x2 x3 := by
  intro n
  induction n with
  | zero => exact fun _ _ h => (ck_none h).elim
  | succ n ih =>
    intro x2 x3 h
    have k := ck_ite h
    refine br_c (fun z => ?_) (fun z => ?_)
    · exact ck_some (P := post) (k.1 z) hp
    · replace h := k.2 z
      exact ck_image (nm_e (nm_e (ih _ _ h)))
theorem ck_out {u : St2} {g : Int32} (h : kf_out g 7 0 5 = some r) (hp : post r) : wpX_outside post u g := by
  obtain ⟨c1, c2, c3, c4, c5, a1, a2, a3, a4, a5, a6⟩ := u
  exact ⟨7, ck_out4 hp 7 0 5 h⟩
theorem ck_power {u : St2} {a n : Nat} (hn : n < 2 ^ 30) (hp : post (nI (a ^ n))) : wpX_power post u (nI a) (nI n) := by
  obtain ⟨c1, c2, c3, c4, c5, a1, a2, a3, a4, a5, a6⟩ := u
  exact pk_loop (fun f i s => wX_power_5 post (nI a) (nI n) c1 c2 c3 c4 c5 a1 a2 a3 a4 a5 a6 f s (nI i)) (fun i s => s = nI (a ^ i)) n 0 1 (by omega) (by rw [Nat.pow_zero]; rfl)
    (fun f s h => pk_le n n (fun _ => by rw [h]; exact hp) (fun z => absurd z (by omega)))
    (fun f i s hi h hw => pk_le n i (fun z => absurd z (by omega)) (fun _ => nm_e (nm_r (nI_1 i) (hw _ (by rw [h, pk_mul, Nat.pow_succ])))))
end
end
section
/-! the exchange of places i and j: its code inside (three binary digits a place) and outside (a digit to base six a place); what the functions answer there, by computing -/
def kf_p (i j k : Nat) : Nat := if k = i then j else if k = j then i else k
def kf_g (i j : Nat) : Int32 := nI (kf_p i j 0 + 8 * kf_p i j 1 + 64 * kf_p i j 2 + 512 * kf_p i j 3 + 4096 * kf_p i j 4 + 32768 * kf_p i j 5)
def kf_x (i j : Nat) : Int32 := (44790 + ((nI j - nI i) * nI (6 ^ i))) + ((nI i - nI j) * nI (6 ^ j))
theorem kt_pos : ∀ i, i < 6 → ∀ j, j < 6 → i ≠ j → 0 ≤ kf_x i j ∧ 0 ≤ kf_g i j ∧ ¬ (181896 : Int32) = kf_g i j := by decide +kernel
theorem kt_in : ∀ i, i < 6 → ∀ j, j < 6 → i ≠ j → kf_in 7 0 0 (kf_x i j) 0 = some (kf_g i j) := by decide +kernel
theorem kt_b1 : ∀ i, i < 6 → ∀ j, j < 6 → i ≠ j → kf_bo 181896 (kf_g i j) 7 0 0 = some (kf_g i j) := by decide +kernel
theorem kt_b2 : ∀ i, i < 6 → ∀ j, j < 6 → i ≠ j → kf_bo (kf_g i j) (kf_g i j) 7 0 0 = some 181896 := by decide +kernel
theorem kt_s1 : kf_s7 181896 7 0 0 0 = some 6 := by decide +kernel
theorem kt_s2 : ∀ i, i < 6 → ∀ j, j < 6 → i ≠ j → kf_s7 (kf_g i j) 7 0 0 0 = some 20 := by decide +kernel
theorem kt_out : ∀ i, i < 6 → ∀ j, j < 6 → i ≠ j → kf_out (kf_g i j) 7 0 5 = some (kf_x i j) := by decide +kernel
theorem kt_a1 : kf_all 6 7 0 1 = some 6 := by decide +kernel
theorem kt_a2 : kf_all 20 7 0 1 = some 5 := by decide +kernel
theorem kt_im0 : ∀ k, k < 6 → kf_im 181896 (nI k) = nI k := by decide +kernel
theorem kt_im : ∀ i, i < 6 → ∀ j, j < 6 → ∀ k, k < 6 → kf_im (kf_g i j) (nI k) = nI (kf_p i j k) := by decide +kernel
theorem kt_p : ∀ i, i < 6 → ∀ j, j < 6 → ∀ k, k < 6 → kf_p i j k < 6 := by decide +kernel
/-- a colouring carried by p, as a sum over the first k places -/
def kf_c (c col : Nat) (p : Nat → Nat) : Nat → Nat
  | 0 => 0
  | k + 1 => kf_c c col p k + (col / c ^ k % c) * c ^ (p k)
theorem kt_c0 : ∀ c, c < 4 → ∀ col, col < c ^ 6 → kf_c c col (fun k => k) 6 = col := by decide +kernel
theorem kt_c1 : ∀ i, i < 6 → ∀ j, j < 6 → i ≠ j → ∀ col, col < 1 → (kf_c 1 col (kf_p i j) 6 = col ↔ col / 1 ^ i % 1 = col / 1 ^ j % 1) := by decide +kernel
theorem kt_c2 : ∀ i, i < 6 → ∀ j, j < 6 → i ≠ j → ∀ col, col < 64 → (kf_c 2 col (kf_p i j) 6 = col ↔ col / 2 ^ i % 2 = col / 2 ^ j % 2) := by decide +kernel
theorem kt_c3 : ∀ i, i < 6 → ∀ j, j < 6 → i ≠ j → ∀ col, col < 729 → (kf_c 3 col (kf_p i j) 6 = col ↔ col / 3 ^ i % 3 = col / 3 ^ j % 3) := by decide +kernel
end
section
/-! carried, enter, countShape and the listing of the group of one exchange -/
theorem ck_carried {post : Int32 → Prop} {c1 c3 c4 c5 g : Int32} {a1 a2 a3 a4 a5 a6 : Nat → Int32} {c col : Nat} {p : Nat → Nat} (h0 : 0 < c) (hc : c < 4) (hcol : col < 2 ^ 20) (hi : ∀ k, k < 6 → kf_im g (nI k) = nI (p k)) (hp : ∀ k, k < 6 → p k < 6) (H : post (nI (kf_c c col p 6))) : wpX_carried post (c1, nI c, c3, c4, c5, a1, a2, a3, a4, a5, a6) (nI col) g := by
  have hcI : ¬ nI c = 0 := nI_ne0 h0 (by omega)
  refine pk_loop (fun n i (s : Int32 × Int32) => wX_carried_8 post g c1 (nI c) c3 c4 c5 a1 a2 a3 a4 a5 a6 n s.1 s.2 (nI i)) (fun i s => s.1 = nI (col / c ^ i) ∧ s.2 = nI (kf_c c col p i)) 6 0 (nI col, 0) (by omega) ⟨by rw [Nat.pow_zero, Nat.div_one], rfl⟩ ?_ ?_
  · intro n s h
    refine pk_le 6 6 (fun _ => ?_) (fun z => absurd z (by omega))
    rw [h.2]
    exact H
  · intro n i s hi6 h hw
    have hs : col / c ^ i < 2 ^ 31 := Nat.lt_of_le_of_lt (Nat.div_le_self _ _) (by omega)
    refine pk_le 6 i (fun z => absurd z (by omega)) (fun _ => ck_image ?_)
    rw [hi i hi6]
    refine ⟨hcI, ck_power (by have := hp i hi6; omega) ?_⟩
    refine nm_r (e' := nI (kf_c c col p (i + 1))) ?_ ⟨hcI, nm_r (e' := nI (col / c ^ (i + 1))) ?_ (nm_r (nI_1 i) (hw (_, _) ⟨rfl, rfl⟩))⟩
    · rw [h.1, h.2, pk_rem hs h0 (by omega), pk_mul, nI_add]
      rfl
    · rw [h.1, pk_div hs h0 (by omega), Nat.div_div_eq_div_mul, Nat.pow_succ]
def kf_h (g : Int32) : Int32 := ((g ^^^ (g >>> ((7 : Int32) &&& 31))) * 37) &&& 2047
theorem kt_h (g : Int32) : ∃ p : Nat, p < 2048 ∧ kf_h g = nI p := pk_andE _ 11 (by decide)
section
variable {c1 c2 c3 c5 : Int32} {a1 a2 a3 a4 a5 a6 : Nat → Int32} {post : St2 → Prop}
theorem ck_e62 {g : Int32} {m p : Nat} (hp : p < 2048) (hm : m < 720) (H : post (c1, c2, c3, nI (m + 1), c5, a1, upd a2 m g, upd a3 p (nI m), a4, a5, a6)) : wX_enter_62 post g (nI p) c1 c2 c3 (nI m) c5 a1 a2 a3 a4 a5 a6 :=
  ⟨pk_in p 2048 hp, nm_r (e' := upd a3 p (nI m)) (by rw [nI_clamp (by omega)]) ⟨pk_in m 720 hm, nm_r (e' := upd a2 m g) (by rw [nI_clamp (by omega)]) (nm_r (nI_1 m) H)⟩⟩
theorem ck_enterNew {g : Int32} {m p : Nat} (hp : p < 2048) (hm : m < 720) (hh : kf_h g = nI p) (hn : a3 p < 0) (H : post (c1, c2, c3, nI (m + 1), c5, a1, upd a2 m g, upd a3 p (nI m), a4, a5, a6)) : wpX_enter post (c1, c2, c3, nI m, c5, a1, a2, a3, a4, a5, a6) g := by
  refine nm_r (e' := nI p) hh ⟨1, br_f (by decide) ⟨pk_in p 2048 hp, ?_⟩⟩
  rw [nI_clamp (show p < 2 ^ 31 by omega)]
  exact br_t hn (ck_e62 hp hm H)
theorem ck_enterOld {g : Int32} {m k p : Nat} (hp : p < 2048) (hk : k < 720) (hh : kf_h g = nI p) (hn : a3 p = nI k) (hg : a2 k = g) (H : post (c1, c2, c3, nI m, c5, a1, a2, a3, a4, a5, a6)) : wpX_enter post (c1, c2, c3, nI m, c5, a1, a2, a3, a4, a5, a6) g := by
  refine nm_r (e' := nI p) hh ⟨1, br_f (by decide) ⟨pk_in p 2048 hp, ?_⟩⟩
  rw [nI_clamp (show p < 2 ^ 31 by omega), hn, nI_clamp (show k < 2 ^ 31 by omega)]
  exact br_f (nI_pos (by omega)) ⟨pk_in p 2048 hp, pk_in k 720 hk, br_t hg H⟩
theorem ck_enterNext {g : Int32} {m k p q : Nat} (hp : p < 2048) (hq : q = (p + 1) % 2048) (hm : m < 720) (hk : k < 720) (hh : kf_h g = nI p) (hn : a3 p = nI k) (hg : ¬ a2 k = g) (hz : a3 q < 0) (H : post (c1, c2, c3, nI (m + 1), c5, a1, upd a2 m g, upd a3 q (nI m), a4, a5, a6)) : wpX_enter post (c1, c2, c3, nI m, c5, a1, a2, a3, a4, a5, a6) g := by
  have hq' : q < 2048 := by omega
  have e : (nI p + 1) &&& 2047 = nI q := by
    rw [nI_1, pk_andN (show p + 1 < 2 ^ 32 by omega) 11 (by decide), hq]
  refine nm_r (e' := nI p) hh ⟨2, br_f (by decide) ⟨pk_in p 2048 hp, ?_⟩⟩
  rw [nI_clamp (show p < 2 ^ 31 by omega), hn, nI_clamp (show k < 2 ^ 31 by omega)]
  refine br_f (nI_pos (by omega)) ⟨pk_in p 2048 hp, pk_in k 720 hk, br_f hg (nm_r e (nm_r (e' := 1) (by decide) (br_f (by decide) ⟨pk_in q 2048 hq', ?_⟩)))⟩
  rw [nI_clamp (show q < 2 ^ 31 by omega)]
  exact br_t hz (ck_e62 hq' hm H)
end
section
variable {c1 c2 c3 c4 : Int32} {a1 a2 a3 a4 a5 a6 : Nat → Int32} {post : St2 → Prop}
theorem ck_count0 {s : Int32} (H : post (c1, c2, c3, c4, 1, a1, a2, a3, upd a4 0 s, upd a5 0 1, a6)) : wpX_countShape post (c1, c2, c3, c4, 0, a1, a2, a3, a4, a5, a6) s :=
  ⟨1, br_t (by decide) ⟨pk_in 0 12 (by decide), nm_r (e' := upd a4 0 s) (by rfl) ⟨pk_in 0 12 (by decide), nm_r (e' := upd a5 0 1) (by rfl) (nm_r (e' := 1) (by decide) H)⟩⟩⟩
theorem ck_count1 {s : Int32} (hs : ¬ a4 0 = s) (H : post (c1, c2, c3, c4, 2, a1, a2, a3, upd a4 1 s, upd a5 1 1, a6)) : wpX_countShape post (c1, c2, c3, c4, 1, a1, a2, a3, a4, a5, a6) s :=
  ⟨2, br_f (by decide) ⟨pk_in 0 12 (by decide), br_f hs (nm_r (e' := 1) (by decide) (br_t (by decide) ⟨pk_in 1 12 (by decide), nm_r (e' := upd a4 1 s) (by rfl) ⟨pk_in 1 12 (by decide), nm_r (e' := upd a5 1 1) (by rfl) (nm_r (e' := 2) (by decide) H)⟩⟩))⟩⟩
/-- the last loop of the listing: two rearrangements, two shapes -/
theorem ck_l109 {g : Int32} (h0 : a2 0 = 181896) (h1 : a2 1 = g) (hg : kf_s7 g 7 0 0 0 = some 20) (H : ∀ b4 b5 : Nat → Int32, b4 0 = 6 → b4 1 = 20 → b5 0 = 1 → b5 1 = 1 → post (c1, c2, 1, 2, 2, a1, a2, a3, b4, b5, a6)) : ∃ n, wX_listGroup_109 post n 0 c1 c2 c3 2 0 a1 a2 a3 a4 a5 a6 := by
  refine ⟨3, br_f (by decide) ⟨pk_in 0 720 (by decide), ?_⟩⟩
  refine ck_shape (r := 6) (by rw [sb_cl0, h0]; exact kt_s1) (ck_count0 ?_)
  refine nm_r (e' := 1) (by decide) (br_f (by decide) ⟨pk_in 1 720 (by decide), ?_⟩)
  refine ck_shape (r := 20) (by rw [ck_cl1, h1]; exact hg) (ck_count1 (by rw [pk_us]; decide) ?_)
  refine nm_r (e' := 2) (by decide) (br_t (by decide) ?_)
  exact H _ _ (by rw [pk_un (by decide), pk_us]) pk_us (by rw [pk_un (by decide), pk_us]) pk_us
theorem ck_list {sz sh g : Int32} (hg : a1 0 = g) (hne : ¬ (181896 : Int32) = g) (hb1 : kf_bo 181896 g 7 0 0 = some g) (hb2 : kf_bo g g 7 0 0 = some 181896) (hs : kf_s7 g 7 0 0 0 = some 20)
    (H : ∀ b2 b3 b4 b5 : Nat → Int32, b2 0 = 181896 → b2 1 = g → b4 0 = 6 → b4 1 = 20 → b5 0 = 1 → b5 1 = 1 → post (1, c2, 1, 2, 2, a1, b2, b3, b4, b5, a6)) : wpX_listGroup post (1, c2, 0, sz, sh, a1, a2, a3, a4, a5, a6) := by
  refine br_t rfl (pk_loop (fun n i s => wX_listGroup_10 post 1 c2 0 sz sh n (nI i) a1 a2 s a4 a5 a6) (fun i s => ∀ j, j < i → s j = -1) 2048 0 a3 (by omega) (fun j hj => absurd hj (by omega)) ?_ ?_)
  · intro n s h
    refine pk_le 2048 2048 (fun _ => ?_) (fun z => absurd z (by omega))
    obtain ⟨p, hp, ep⟩ := kt_h 181896
    obtain ⟨q, hq, eq⟩ := kt_h g
    refine ck_enterNew (m := 0) hp (by decide) ep (by rw [h p hp]; decide) ?_
    refine ⟨3, br_f (by decide) (br_f (by decide) ⟨2, br_f (by decide) ⟨pk_in 0 720 (by decide), pk_in 0 3 (by decide), ?_⟩⟩)⟩
    refine ck_both (r := g) (by rw [sb_cl0, pk_us, hg]; exact hb1) ?_
    have fin : ∀ t : Nat, t < 2048 → t ≠ p → wX_listGroup_60 post (wX_listGroup_43 post 2) 0 1 (0 + 1) 1 c2 0 2 sh a1 (upd (upd a2 0 181896) 1 g) (upd (upd s p (nI 0)) t (nI 1)) a4 a5 a6 := by
      intro t ht hne2
      refine br_t (by decide) (nm_r (e' := 1) (by decide) ?_)
      refine br_f (by decide) (br_f (by decide) ⟨2, br_f (by decide) ⟨pk_in 1 720 (by decide), pk_in 0 3 (by decide), ?_⟩⟩)
      refine ck_both (r := 181896) (by rw [sb_cl0, ck_cl1, pk_us, hg]; exact hb2) ?_
      refine ck_enterOld (m := 2) (k := 0) hp (by decide) ep (by rw [pk_un (Ne.symm hne2), pk_us]) (by rw [pk_un (by decide), pk_us]) ?_
      refine nm_r (e' := 1) (by decide) (br_t (by decide) (nm_r (e' := 2) (by decide) (br_t (by decide) ?_)))
      exact ck_l109 (by rw [pk_un (by decide), pk_us]) pk_us hs (fun b4 b5 => H _ _ b4 b5 (by rw [pk_un (by decide), pk_us]) pk_us)
    by_cases e : q = p
    · have hz : (q + 1) % 2048 ≠ p := by omega
      refine ck_enterNext (m := 1) (k := 0) hq rfl (by decide) (by decide) eq (by rw [e, pk_us]) (by rw [pk_us]; exact hne) (by rw [pk_un hz, h ((q + 1) % 2048) (by omega)]; decide) ?_
      exact nm_e (fin _ (by omega) hz)
    · refine ck_enterNew (m := 1) hq (by decide) eq (by rw [pk_un e, h q hq]; decide) ?_
      exact nm_e (fin q hq e)
  · intro n i s hi h hw
    refine pk_le 2048 i (fun z => absurd z (by omega)) (fun _ => ⟨pk_in i 2048 hi, nm_r (e' := upd s i (-1)) (by rw [nI_clamp (by omega)]) (nm_r (nI_1 i) (hw _ ?_))⟩)
    intro j hj
    by_cases e : j = i
    · rw [e, pk_us]
    · rw [pk_un e]
      exact h j (by omega)
end
end
section
/-! the calls behind the listing -/
theorem ck_pw {c m : Nat} (hc : c < 4) (hm : m ≤ 6) : c ^ m ≤ 729 :=
  Nat.le_trans (Nat.pow_le_pow_left (show c ≤ 3 by omega) m) (Nat.le_trans (Nat.pow_le_pow_right (by decide) hm) (by decide))
theorem ck_cle {c col : Nat} {p : Nat → Nat} (h0 : 0 < c) (hc : c < 4) (hp : ∀ m, m < 6 → p m < 6) : ∀ k, k ≤ 6 → kf_c c col p k ≤ k * 2187 := by
  intro k
  induction k with
  | zero => exact fun _ => Nat.le_refl 0
  | succ k ih =>
    intro hk
    have h1 := ih (by omega)
    have h2 : (col / c ^ k % c) * c ^ (p k) ≤ 3 * 729 := by
      refine Nat.mul_le_mul ?_ (ck_pw hc (by have := hp k (by omega); omega))
      have := Nat.mod_lt (col / c ^ k) h0
      omega
    show kf_c c col p k + (col / c ^ k % c) * c ^ (p k) ≤ (k + 1) * 2187
    omega
theorem ck_fix {c : Nat} (hc : c = 1 ∨ c = 2 ∨ c = 3) {i j col : Nat} (hi : i < 6) (hj : j < 6) (hij : i ≠ j) (h : col < c ^ 6) : kf_c c col (kf_p i j) 6 = col ↔ col / c ^ i % c = col / c ^ j % c := by
  rcases hc with rfl | rfl | rfl
  · exact kt_c1 i hi j hj hij col h
  · exact kt_c2 i hi j hj hij col h
  · exact kt_c3 i hi j hj hij col h
section
variable {c : Nat} {a1 a2 a3 a4 a5 a6 : Nat → Int32} {post : Int32 → St2 → Prop}
theorem ck_listed {c2 : Int32} {post : St2 → Prop} (H : post (1, c2, 1, 2, 2, a1, a2, a3, a4, a5, a6)) : wpX_listGroup post (1, c2, 1, 2, 2, a1, a2, a3, a4, a5, a6) := br_f (by decide) H
theorem ck_kinds (hc : c = 1 ∨ c = 2 ∨ c = 3) (h40 : a4 0 = 6) (h41 : a4 1 = 20) (h50 : a5 0 = 1) (h51 : a5 1 = 1) (H : post (nI ((c ^ 6 + c ^ 5) / 2)) (1, nI c, 1, 2, 2, a1, a2, a3, a4, a5, a6)) : wpX_kinds post (1, nI c, 1, 2, 2, a1, a2, a3, a4, a5, a6) := by
  unfold wpX_kinds
  refine ck_listed ?_
  refine ⟨3, br_f (by decide) ⟨pk_in 0 12 (by decide), ck_all (r := 6) (by rw [sb_cl0, h40]; exact kt_a1) (ck_power (a := c) (n := 6) (by decide) ⟨pk_in 0 12 (by decide), nm_r (e' := nI (c ^ 6)) ?_ (nm_r (e' := 1) (by decide) (br_f (by decide) ⟨pk_in 1 12 (by decide), ck_all (r := 5) (by rw [ck_cl1, h41]; exact kt_a2) (ck_power (a := c) (n := 5) (by decide) ⟨pk_in 1 12 (by decide), nm_r (e' := nI (c ^ 6 + c ^ 5)) ?_ (nm_r (e' := 2) (by decide) (br_t (by decide) (br_f (by decide) ⟨by decide, ?_⟩)))⟩)⟩))⟩)⟩⟩
  · rw [sb_cl0, h50, Int32.one_mul, Int32.zero_add]
  · rw [ck_cl1, h51, Int32.one_mul, nI_add]
  · have e : nI (c ^ 6 + c ^ 5) / 2 = nI ((c ^ 6 + c ^ 5) / 2) := by rcases hc with rfl | rfl | rfl <;> decide
    exact ek_v (P := fun r => post r (1, nI c, 1, 2, 2, a1, a2, a3, a4, a5, a6)) e H
theorem ck_orb {c2 : Int32} {post : Int32 → Prop} (h40 : a4 0 = 6) (h41 : a4 1 = 20) (h50 : a5 0 = 1) (h51 : a5 1 = 1) (H : post 5) : wpX_orbitCount post (1, c2, 1, 2, 2, a1, a2, a3, a4, a5, a6) := by
  refine ⟨3, br_f (by decide) ⟨pk_in 0 12 (by decide), ck_cyc ⟨pk_in 0 12 (by decide), nm_r (e' := 6) ?_ (nm_r (e' := 1) (by decide) (br_f (by decide) ⟨pk_in 1 12 (by decide), ck_cyc ⟨pk_in 1 12 (by decide), nm_r (e' := 10) ?_ (nm_r (e' := 2) (by decide) (br_t (by decide) (br_f (by decide) ⟨by decide, ?_⟩)))⟩⟩))⟩⟩⟩
  · rw [sb_cl0, h40, h50]
    decide
  · rw [ck_cl1, h41, h51]
    decide
  · exact ek_v (P := post) (show (10 : Int32) / 2 = 5 by decide) H
theorem ck_still (h40 : a4 0 = 6) (h41 : a4 1 = 20) (h50 : a5 0 = 1) (h51 : a5 1 = 1) (H : post (nI (c ^ 5)) (1, nI c, 1, 2, 2, a1, a2, a3, a4, a5, a6)) : wpX_still post (1, nI c, 1, 2, 2, a1, a2, a3, a4, a5, a6) := by
  unfold wpX_still
  refine ck_listed ?_
  exact ck_orb h40 h41 h50 h51 (ck_power (a := c) (n := 5) (by decide) H)
theorem ck_orbits (h40 : a4 0 = 6) (h41 : a4 1 = 20) (h50 : a5 0 = 1) (h51 : a5 1 = 1) (H : post 5 (1, nI c, 1, 2, 2, a1, a2, a3, a4, a5, a6)) : wpX_orbits post (1, nI c, 1, 2, 2, a1, a2, a3, a4, a5, a6) := by
  unfold wpX_orbits
  refine ck_listed ?_
  exact ck_orb h40 h41 h50 h51 H
theorem ck_pairs (h40 : a4 0 = 6) (h41 : a4 1 = 20) (h50 : a5 0 = 1) (h51 : a5 1 = 1) (H : post 11 (1, nI c, 1, 2, 2, a1, a2, a3, a4, a5, a6)) : wpX_pairKinds post (1, nI c, 1, 2, 2, a1, a2, a3, a4, a5, a6) := by
  unfold wpX_pairKinds
  refine ck_listed ?_
  refine ⟨3, br_f (by decide) ⟨pk_in 0 12 (by decide), ck_cyc ⟨pk_in 0 12 (by decide), ck_cyc ⟨pk_in 0 12 (by decide), by decide, nm_r (e' := 15) ?_ (nm_r (e' := 1) (by decide) (br_f (by decide) ⟨pk_in 1 12 (by decide), ck_cyc ⟨pk_in 1 12 (by decide), ck_cyc ⟨pk_in 1 12 (by decide), by decide, nm_r (e' := 22) ?_ (nm_r (e' := 2) (by decide) (br_t (by decide) (br_f (by decide) ⟨by decide, ?_⟩)))⟩⟩⟩))⟩⟩⟩⟩
  · rw [sb_cl0, h40, h50]
    decide
  · rw [ck_cl1, h41, h51]
    decide
  · exact ek_v (P := fun r => post r (1, nI c, 1, 2, 2, a1, a2, a3, a4, a5, a6)) (show (22 : Int32) / 2 = 11 by decide) H
theorem ck_with (h40 : a4 0 = 6) (h41 : a4 1 = 20) (h51 : a5 1 = 1) (H : post 1 (1, nI c, 1, 2, 2, a1, a2, a3, a4, a5, a6)) : wpX_withCycles post (1, nI c, 1, 2, 2, a1, a2, a3, a4, a5, a6) 5 := by
  unfold wpX_withCycles
  refine ck_listed ?_
  refine ⟨3, br_f (by decide) ⟨pk_in 0 12 (by decide), ck_all (r := 6) (by rw [sb_cl0, h40]; exact kt_a1) (br_f (by decide) (nm_r (e' := 1) (by decide) (br_f (by decide) ⟨pk_in 1 12 (by decide), ck_all (r := 5) (by rw [ck_cl1, h41]; exact kt_a2) (br_t (by decide) ⟨pk_in 1 12 (by decide), nm_r (e' := 1) ?_ (nm_r (e' := 2) (by decide) (br_t (by decide) H))⟩)⟩)))⟩⟩
  rw [ck_cl1, h51]
  decide
theorem ck_size (hc : c = 1 ∨ c = 2 ∨ c = 3) {i j col : Nat} (hi : i < 6) (hj : j < 6) (hij : i ≠ j) (h : col < c ^ 6) (h20 : a2 0 = 181896) (h21 : a2 1 = kf_g i j)
    (H : post (nI (if col / c ^ i % c = col / c ^ j % c then 1 else 2)) (1, nI c, 1, 2, 2, a1, a2, a3, a4, a5, a6)) : wpX_size post (1, nI c, 1, 2, 2, a1, a2, a3, a4, a5, a6) (nI col) := by
  have h0 : 0 < c := by omega
  have h4 : c < 4 := by omega
  have hw := ck_pw h4 (Nat.le_refl 6)
  have hk := ck_cle (c := c) (col := col) (p := kf_p i j) h0 h4 (kt_p i hi j hj) 6 (by omega)
  unfold wpX_size
  refine br_f (nI_pos (by omega)) (ck_power (a := c) (n := 6) (by decide) (br_t (nI_lt h (by omega)) (br_t rfl (ck_listed ?_))))
  refine ⟨3, br_f (by decide) ⟨pk_in 0 720 (by decide), ?_⟩⟩
  rw [sb_cl0, h20]
  refine ck_carried (p := fun k => k) h0 h4 (by omega) kt_im0 (fun k hk => hk) ?_
  rw [kt_c0 c h4 col h]
  refine br_t rfl (nm_r (e' := 1) (by decide) (nm_r (e' := 1) (by decide) (br_f (by decide) ⟨pk_in 1 720 (by decide), ?_⟩)))
  rw [ck_cl1, h21]
  refine ck_carried (p := kf_p i j) h0 h4 (by omega) (kt_im i hi j hj) (kt_p i hi j hj) ?_
  by_cases e : col / c ^ i % c = col / c ^ j % c
  · rw [if_pos e] at H
    rw [(ck_fix hc hi hj hij h).mpr e]
    refine br_t rfl (nm_r (e' := 2) (by decide) (nm_r (e' := 2) (by decide) (br_t (by decide) (br_f (by decide) ⟨by decide, ?_⟩))))
    exact ek_v (P := fun r => post r (1, nI c, 1, 2, 2, a1, a2, a3, a4, a5, a6)) (show (2 : Int32) / 2 = nI 1 by decide) H
  · rw [if_neg e] at H
    have ne : ¬ nI (kf_c c col (kf_p i j) 6) = nI col := by
      rw [nI_eq (by omega) (by omega), ck_fix hc hi hj hij h]
      exact e
    refine br_f ne (nm_r (e' := 2) (by decide) (br_t (by decide) (br_f (by decide) ⟨by decide, ?_⟩)))
    exact ek_v (P := fun r => post r (1, nI c, 1, 2, 2, a1, a2, a3, a4, a5, a6)) (show (2 : Int32) / 1 = nI 2 by decide) H
theorem ck_remove {c2 c3 c4 c5 g x : Int32} (hg : a1 0 = g) (ho : kf_out g 7 0 5 = some x) (H : post x (0, c2, 0, c4, c5, a1, a2, a3, a4, a5, a6)) : wpX_remove post (1, c2, c3, c4, c5, a1, a2, a3, a4, a5, a6) := by
  refine br_f (by decide) (nm_r (e' := 0) (by decide) ⟨pk_in 0 3 (by decide), ck_out (r := x) ?_ H⟩)
  rw [sb_cl0, hg]
  exact ho
theorem ck_order {c2 g : Int32} {sz sh : Int32} (hg : a1 0 = g) (hne : ¬ (181896 : Int32) = g) (hb1 : kf_bo 181896 g 7 0 0 = some g) (hb2 : kf_bo g g 7 0 0 = some 181896) (hs : kf_s7 g 7 0 0 0 = some 20)
    (H : ∀ b2 b3 b4 b5 : Nat → Int32, b2 0 = 181896 → b2 1 = g → b4 0 = 6 → b4 1 = 20 → b5 0 = 1 → b5 1 = 1 → post 2 (1, c2, 1, 2, 2, a1, b2, b3, b4, b5, a6)) : wpX_order post (1, c2, 0, sz, sh, a1, a2, a3, a4, a5, a6) := by
  unfold wpX_order
  exact ck_list hg hne hb1 hb2 hs H
theorem ck_add {c2 c3 c4 c5 x g : Int32} (h0 : 0 ≤ x) (hk : kf_in 7 0 0 x 0 = some g) (hg : 0 ≤ g) (H : post 1 (1, c2, 0, c4, c5, upd a1 0 g, a2, a3, a4, a5, a6)) : wpX_add post (0, c2, c3, c4, c5, a1, a2, a3, a4, a5, a6) x :=
  br_t h0 (ck_inside hk (br_t hg (br_f (by decide) ⟨pk_in 0 3 (by decide), nm_r (e' := upd a1 0 g) (by rfl) (nm_r (e' := 1) (by decide) H)⟩)))
theorem ck_colours (hc : c = 1 ∨ c = 2 ∨ c = 3) {c1 c2 c3 c4 c5 : Int32} (H : post c2 (c1, nI c, c3, c4, c5, a1, a2, a3, a4, a5, a6)) : wpX_colours post (c1, c2, c3, c4, c5, a1, a2, a3, a4, a5, a6) (nI c) :=
  br_f (by rcases hc with rfl | rfl | rfl <;> decide) (br_t (by rcases hc with rfl | rfl | rfl <;> decide) H)
end
end
section
/-! the law -/
theorem ck_unit {post : Int32 → Prop} {u : St0} {i : Nat} (hi : i < 6) (H : post (nI (6 ^ i))) : wpL_unit post u (nI i) := by
  have hs : i = 0 ∨ i = 1 ∨ i = 2 ∨ i = 3 ∨ i = 4 ∨ i = 5 := by omega
  rcases hs with rfl | rfl | rfl | rfl | rfl | rfl
  · exact br_t rfl H
  · exact br_f (by decide) (br_t rfl H)
  · exact br_f (by decide) (br_f (by decide) (br_t rfl H))
  · exact br_f (by decide) (br_f (by decide) (br_f (by decide) (br_t rfl H)))
  · exact br_f (by decide) (br_f (by decide) (br_f (by decide) (br_f (by decide) (br_t rfl H))))
  · exact br_f (by decide) (br_f (by decide) (br_f (by decide) (br_f (by decide) (br_f (by decide) H))))
theorem ck_pl {post : Int32 → Prop} {u : St0} {c i : Nat} (hi : i < 6) (H : post (nI (c ^ i))) : wpL_power post u (nI c) (nI i) := by
  have hs : i = 0 ∨ i = 1 ∨ i = 2 ∨ i = 3 ∨ i = 4 ∨ i = 5 := by omega
  have m1 : ∀ x : Int32, x * 1 = x := Int32.mul_one
  have e1 : (1 : Int32) = nI 1 := rfl
  rcases hs with rfl | rfl | rfl | rfl | rfl | rfl
  · exact br_t (by decide) (br_t (by decide) (br_t (by decide) (br_t (by decide) (br_t (by decide) (ek_v (P := post) (by rw [Nat.pow_zero]; decide) H)))))
  · exact br_f (by decide) (br_t (by decide) (br_t (by decide) (br_t (by decide) (br_t (by decide) (ek_v (P := post) (by rw [m1, m1, m1, m1, Nat.pow_one]) H)))))
  · exact br_f (by decide) (br_f (by decide) (br_t (by decide) (br_t (by decide) (br_t (by decide) (ek_v (P := post) (by rw [m1, m1, m1, pk_mul, Nat.pow_succ, Nat.pow_one]) H)))))
  · exact br_f (by decide) (br_f (by decide) (br_f (by decide) (br_t (by decide) (br_t (by decide) (ek_v (P := post) (by rw [m1, m1, pk_mul, pk_mul, Nat.pow_succ, Nat.pow_succ, Nat.pow_one]) H)))))
  · exact br_f (by decide) (br_f (by decide) (br_f (by decide) (br_f (by decide) (br_t (by decide) (ek_v (P := post) (by rw [m1, pk_mul, pk_mul, pk_mul, Nat.pow_succ, Nat.pow_succ, Nat.pow_succ, Nat.pow_one]) H)))))
  · exact br_f (by decide) (br_f (by decide) (br_f (by decide) (br_f (by decide) (br_f (by decide) (ek_v (P := post) (by rw [pk_mul, pk_mul, pk_mul, pk_mul, Nat.pow_succ, Nat.pow_succ, Nat.pow_succ, Nat.pow_succ, Nat.pow_one]) H)))))
theorem ck_dig {c col i : Nat} (h0 : 0 < c) (h4 : c < 4) (hcol : col < 2 ^ 20) (hi : i < 6) : nI col / nI (c ^ i) - nI col / nI (c ^ i) / nI c * nI c = nI (col / c ^ i % c) := by
  have hw := ck_pw (m := i) h4 (by omega)
  rw [pk_div (by omega) (Nat.pow_pos h0) (by omega), pk_rem (Nat.lt_of_le_of_lt (Nat.div_le_self _ _) (by omega)) h0 (by omega)]
theorem ck_215 {post : Int32 → St0 → Prop} {mc ms kc ks c col j a : Nat} {x : Int32} (hc : c = 1 ∨ c = 2 ∨ c = 3) (hj : j < 6) (hcol : col < 2 ^ 20) (ha : a < 2 ^ 20) (H : post 1 ()) :
    wL_lawOf_215 post mc ms (nI c) (nI (c ^ 6)) x 2 (nI ((c ^ 6 + c ^ 5) / 2)) (nI (c ^ 5)) 11 5 1 (nI (if a = col / c ^ j % c then 1 else 2)) x (nI a) (nI (c ^ j)) (nI col) kc ks := by
  have h0 : 0 < c := by omega
  have h4 : c < 4 := by omega
  have hw := ck_pw (m := j) h4 (by omega)
  have hcI : ¬ nI c = 0 := nI_ne0 h0 (by omega)
  have hb : col / c ^ j % c < 2 ^ 20 := Nat.lt_trans (Nat.mod_lt _ h0) (by omega)
  refine ⟨nI_ne0 (Nat.pow_pos h0) (by omega), hcI, nm_r (ck_dig h0 h4 hcol hj) ?_⟩
  refine br_t rfl ⟨hcI, by decide, br_t (by rcases hc with rfl | rfl | rfl <;> decide) ⟨hcI, br_t (by rcases hc with rfl | rfl | rfl <;> decide) (br_t rfl (br_t rfl (br_t rfl ?_)))⟩⟩
  refine pk_eq a (col / c ^ j % c) (fun e => ?_) (fun e => ?_)
  · rw [if_pos e]
    exact br_t rfl (br_t rfl H)
  · rw [if_neg e]
    exact br_t rfl (br_t rfl H)
theorem ck_191 {post : Int32 → St0 → Prop} {mc ms kc ks c col i j : Nat} {x : Int32} (hc : c = 1 ∨ c = 2 ∨ c = 3) (hi : i < 6) (hj : j < 6) (hcol : col < 2 ^ 20) (H : post 1 ()) :
    wL_lawOf_191 post mc ms (nI j) (nI c) (nI (c ^ 6)) x 2 (nI ((c ^ 6 + c ^ 5) / 2)) (nI (c ^ 5)) 11 5 1 (nI col) (nI (if col / c ^ i % c = col / c ^ j % c then 1 else 2)) x (nI (c ^ i)) (nI col) kc ks := by
  have h0 : 0 < c := by omega
  have h4 : c < 4 := by omega
  have hw := ck_pw (m := i) h4 (by omega)
  have hcI : ¬ nI c = 0 := nI_ne0 h0 (by omega)
  have hb : col / c ^ i % c < 2 ^ 20 := Nat.lt_trans (Nat.mod_lt _ h0) (by omega)
  refine ⟨nI_ne0 (Nat.pow_pos h0) (by omega), hcI, nm_r (ck_dig h0 h4 hcol hi) ?_⟩
  have hz := ck_215 (post := post) (mc := mc) (ms := ms) (kc := kc) (ks := ks) (x := x) hc hj hcol hb H
  refine pk_eq j 0 (fun e => ?_) (fun _ => ck_pl hj hz)
  subst e
  exact hz
theorem ck_68 {post : Int32 → St0 → Prop} {mc ms kc ks c i j : Nat} {y : Int32} {z0 f1 : Int32} (hc : c = 1 ∨ c = 2 ∨ c = 3) (hz : z0 = nI (c ^ 6)) (hi : i < 6) (hj : j < 6) (hij : i ≠ j) (H : post 1 ()) :
    wL_lawOf_68 post mc ms y (nI i) (nI j) (nI c) z0 kc ks 0 f1 0 0 0 (fun _ => 0) (fun _ => 0) (fun _ => 0) (fun _ => 0) (fun _ => 0) (fun _ => 0) := by
  subst hz
  have h0 : 0 < c := by omega
  have h4 : c < 4 := by omega
  have hw := ck_pw (m := 6) h4 (by omega)
  obtain ⟨t, ht, et⟩ := pk_andE y (m := 1023) 10 (by decide)
  have hcol : t % c ^ 6 < c ^ 6 := Nat.mod_lt _ (Nat.pow_pos h0)
  obtain ⟨hx, hg, hne⟩ := kt_pos i hi j hj hij
  unfold wL_lawOf_68
  refine ck_unit hi (ck_unit hj (nm_r (e' := kf_x i j) rfl ?_))
  refine ck_colours hc ?_
  refine ck_add hx (kt_in i hi j hj hij) hg ?_
  refine ck_order pk_us hne (kt_b1 i hi j hj hij) (kt_b2 i hi j hj hij) (kt_s2 i hi j hj hij) (fun b2 b3 b4 b5 h20 h21 h40 h41 h50 h51 => ?_)
  refine ck_kinds hc h40 h41 h50 h51 ?_
  refine ck_still h40 h41 h50 h51 ?_
  refine ck_pairs h40 h41 h50 h51 ?_
  refine ck_orbits h40 h41 h50 h51 ?_
  refine ck_with h40 h41 h51 ?_
  refine ⟨nI_ne0 (Nat.pow_pos h0) (by omega), nm_r (e' := nI (t % c ^ 6)) (by rw [et]; exact pk_rem (by omega) (Nat.pow_pos h0) (by omega)) ?_⟩
  refine ck_size hc hi hj hij hcol h20 h21 ?_
  refine ck_remove pk_us (kt_out i hi j hj hij) ?_
  have hl := ck_191 (post := post) (mc := mc) (ms := ms) (kc := kc) (ks := ks) (x := kf_x i j) (col := t % c ^ 6) hc hi hj (by omega) H
  refine pk_eq i 0 (fun e => ?_) (fun _ => ck_pl hi hl)
  subst e
  exact hl
theorem ck_cell {post : Int32 → Prop} {L : Nat} {xs : Nat → Int32} {u : St0} (k : Nat) (hk : k < 3) (hL : L ≤ 3) (H : ∀ r, post r) : wpL_cellAt post L xs u (nI k) :=
  pk_le L k (fun _ => H _) (fun z => ⟨pk_in k L z, H _⟩)
theorem ck_lawOf {post : Int32 → St0 → Prop} {x n y : Int32} (H : post 1 ()) : wpL_lawOf post 7 2855 () x n y := by
  obtain ⟨a, ha, ea⟩ := pk_andE x (m := 7) 3 (by decide)
  obtain ⟨b, hb, eb⟩ := pk_andE (x >>> ((3 : Int32) &&& 31)) (m := 7) 3 (by decide)
  obtain ⟨d, hd, ed⟩ := pk_andE n (m := 3) 2 (by decide)
  have hi : a % 6 < 6 := Nat.mod_lt _ (by decide)
  have hj : (a % 6 + 1 + b % 5) % 6 < 6 := Nat.mod_lt _ (by decide)
  have hij : a % 6 ≠ (a % 6 + 1 + b % 5) % 6 := by omega
  have hc : 1 + d % 3 = 1 ∨ 1 + d % 3 = 2 ∨ 1 + d % 3 = 3 := by omega
  unfold wpL_lawOf
  refine ⟨by decide, by decide, 6, 2844, by decide, by decide, ?_⟩
  refine ⟨by decide, by decide, by decide, by decide, by decide, by decide, by decide, by decide, by decide, by decide, by decide, by decide, ?_⟩
  refine ⟨by decide, nm_r (e' := nI (a % 6)) (by rw [ea]; exact pk_rem (d := 6) (by omega) (by decide) (by decide)) ⟨by decide, by decide, nm_r (e' := nI ((a % 6 + 1 + b % 5) % 6)) ?_ ⟨by decide, nm_r (e' := nI (1 + d % 3)) ?_ ?_⟩⟩⟩
  · have e5 : nI b - nI b / 5 * 5 = nI (b % 5) := pk_rem (d := 5) (by omega) (by decide) (by decide)
    rw [eb, e5, nI_1, nI_add]
    exact pk_rem (d := 6) (by omega) (by decide) (by decide)
  · have e3 : nI d - nI d / 3 * 3 = nI (d % 3) := pk_rem (d := 3) (by omega) (by decide) (by decide)
    rw [ed, e3]
    exact nI_add 1 (d % 3)
  · generalize 1 + d % 3 = c at hc ⊢
    refine pk_eq c 1 (fun e => ck_68 hc (by rw [e]; rfl) hi hj hij H) (fun e => pk_eq c 2 (fun e2 => ck_68 hc (by rw [e2]; rfl) hi hj hij H) (fun e2 => ck_68 hc (by rw [show c = 3 by omega]; rfl) hi hj hij H))
theorem i_vc (xs : Nat → Int32) (L : Nat) (hL : L ≤ 3) : wpL_law (fun r => r = 1) L xs :=
  ck_cell 0 (by decide) hL (fun _ => ck_cell 1 (by decide) hL (fun _ => ck_cell 2 (by decide) hL (fun _ => ⟨7, 2855, by decide, by decide, ck_lawOf rfl⟩)))
end
