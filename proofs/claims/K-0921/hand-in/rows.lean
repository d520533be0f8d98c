section
/-! rows taken over from kit/rows/PURE-ROWS.to-paste (starting text) -/
theorem pk_us {f : Nat → Int32} {k : Nat} {x : Int32} : upd f k x k = x := if_pos rfl
theorem pk_un {f : Nat → Int32} {k j : Nat} {x : Int32} (h : j ≠ k) : upd f k x j = f j := if_neg h
theorem pk_le {x y : Int32} {A B : Prop} (a b : Nat) (f : a ≤ b → A) (g : b < a → B) (hx : x = nI a := by rfl) (hy : y = nI b := by rfl) (ha : a < 2 ^ 31 := by omega) (hb : b < 2 ^ 31 := by omega) : (x ≤ y → A) ∧ (¬ x ≤ y → B) := by
  subst hx hy
  rw [nI_leI ha hb]
  exact ⟨f, fun z => g (by omega)⟩
theorem pk_lt {x y : Int32} {A B : Prop} (a b : Nat) (f : a < b → A) (g : b ≤ a → B) (hx : x = nI a := by rfl) (hy : y = nI b := by rfl) (ha : a < 2 ^ 31 := by omega) (hb : b < 2 ^ 31 := by omega) : (x < y → A) ∧ (¬ x < y → B) := by
  subst hx hy
  rw [nI_ltI ha hb]
  exact ⟨f, fun z => g (by omega)⟩
theorem pk_eq {x y : Int32} {A B : Prop} (a b : Nat) (f : a = b → A) (g : a ≠ b → B) (hx : x = nI a := by rfl) (hy : y = nI b := by rfl) (ha : a < 2 ^ 31 := by omega) (hb : b < 2 ^ 31 := by omega) : (x = y → A) ∧ (¬ x = y → B) := by
  subst hx hy
  rw [nI_eq ha hb]
  exact ⟨f, g⟩
theorem pk_tn {n : Nat} (h : n < 2 ^ 32) : (nI n).toBitVec.toNat = n := Nat.mod_eq_of_lt h
theorem pk_charN {q : Nat} (hq : q < 65536) : narrow .char (.int (nI q)) = .int (nI q) ∧ fits .char (.int (nI q)) = true := by
  constructor
  · have e : (nI q).toUInt32.toUInt16.toUInt32.toInt32 = nI q := by
      apply Int32.toBitVec_inj.mp
      apply BitVec.eq_of_toNat_eq
      show (nI q).toUInt32.toUInt16.toUInt32.toNat = q % 2 ^ 32
      rw [UInt16.toNat_toUInt32, UInt32.toNat_toUInt16, show (nI q).toUInt32.toNat = q % 2 ^ 32 from rfl]
      omega
    exact congrArg Value.int e
  · have a : (0 : Int32) ≤ nI q := nI_pos' (by omega)
    have b : nI q ≤ 65535 := nI_le (b := 65535) (by omega) (by decide)
    show (decide ((0 : Int32) ≤ nI q) && decide (nI q ≤ 65535)) = true
    rw [decide_eq_true a, decide_eq_true b]
    rfl
theorem pk_char (x : Int32) : (x.toUInt32 % 65536).toInt32 = nI (x.toBitVec.toNat % 65536) := by
  apply Int32.toBitVec_inj.mp
  apply BitVec.eq_of_toNat_eq
  rw [pk_tn (by omega)]
  show (x.toUInt32 % 65536).toNat = _
  rw [UInt32.toNat_mod]
  rfl
theorem pk_vs (z : Int32) : vp_nar .short z.toInt16.toInt32 = z.toInt16.toInt32 := by rw [vp_nar_short]; simp
end
section
/-! the plain law: reaching, stacks as lists, marks and their count; no program in sight -/
/-- v is reached from x over children that aren't 0: the least set that holds v and is closed backwards -/
def oc_R (l r : Nat → Nat) (v x : Nat) : Prop := ∀ S : Nat → Prop, S v → (∀ y, l y ≠ 0 → S (l y) → S y) → (∀ y, r y ≠ 0 → S (r y) → S y) → S x
theorem oc_R_v {l r : Nat → Nat} {v : Nat} : oc_R l r v v := fun _ h _ _ => h
theorem oc_R_e {l r : Nat → Nat} {v x : Nat} (e : x = v) : oc_R l r v x := by rw [e]; exact oc_R_v
theorem oc_R_l {l r : Nat → Nat} {v x : Nat} (h0 : l x ≠ 0) (h : oc_R l r v (l x)) : oc_R l r v x := fun S hv hl hr => hl x h0 (h S hv hl hr)
theorem oc_R_r {l r : Nat → Nat} {v x : Nat} (h0 : r x ≠ 0) (h : oc_R l r v (r x)) : oc_R l r v x := fun S hv hl hr => hr x h0 (h S hv hl hr)
theorem oc_R_b {l r : Nat → Nat} {v x : Nat} (h : x = v ∨ (l x ≠ 0 ∧ oc_R l r v (l x)) ∨ (r x ≠ 0 ∧ oc_R l r v (r x))) : oc_R l r v x := by
  rcases h with e | ⟨a, b⟩ | ⟨a, b⟩
  · exact oc_R_e e
  · exact oc_R_l a b
  · exact oc_R_r a b
theorem oc_R_c {l r : Nat → Nat} {v x : Nat} (h : oc_R l r v x) : x = v ∨ (l x ≠ 0 ∧ oc_R l r v (l x)) ∨ (r x ≠ 0 ∧ oc_R l r v (r x)) := by
  refine h (fun x => x = v ∨ (l x ≠ 0 ∧ oc_R l r v (l x)) ∨ (r x ≠ 0 ∧ oc_R l r v (r x))) (Or.inl rfl) ?_ ?_
  · intro y h0 hy
    exact Or.inr (Or.inl ⟨h0, oc_R_b hy⟩)
  · intro y h0 hy
    exact Or.inr (Or.inr ⟨h0, oc_R_b hy⟩)
/-- the stack's lower cells hold the list, its head on top -/
def oc_St (a : Nat → Int32) : List Nat → Prop
  | [] => True
  | x :: L => a L.length = nI x ∧ oc_St a L
theorem oc_St_u {a : Nat → Int32} {y : Int32} {k : Nat} (L : List Nat) (hk : L.length ≤ k) (h : oc_St a L) : oc_St (upd a k y) L := by
  induction L with
  | nil => exact trivial
  | cons x L ih =>
    have hk' : L.length + 1 ≤ k := hk
    obtain ⟨h1, h2⟩ := h
    exact And.intro ((pk_un (by omega)).trans h1) (ih (by omega) h2)
theorem oc_St_p {a : Nat → Int32} {L : List Nat} {x : Nat} (h : oc_St a L) : oc_St (upd a L.length (nI x)) (x :: L) := And.intro pk_us (oc_St_u L (Nat.le_refl _) h)
/-- the reference's stack: the entry at place i lies in 1 .. 7 - i -/
def oc_Po : List Nat → Prop
  | [] => True
  | x :: L => 1 ≤ x ∧ x + L.length ≤ 7 ∧ oc_Po L
def oc_ms : List Nat → Nat
  | [] => 0
  | x :: L => 3 ^ x + oc_ms L
/-- the reference's push of a child -/
def oc_pu (b : Nat) (L : List Nat) : List Nat := if b = 0 then L else b :: L
theorem oc_pu_0 {b : Nat} {L : List Nat} (h : b = 0) : oc_pu b L = L := if_pos h
theorem oc_pu_1 {b : Nat} {L : List Nat} (h : b ≠ 0) : oc_pu b L = b :: L := if_neg h
theorem oc_pu_len (b : Nat) (L : List Nat) : (oc_pu b L).length ≤ L.length + 1 := by
  by_cases h : b = 0
  · rw [oc_pu_0 h]; omega
  · rw [oc_pu_1 h]; exact Nat.le_refl _
theorem oc_pu_Po {b : Nat} {L : List Nat} (h : b + L.length ≤ 7) (hp : oc_Po L) : oc_Po (oc_pu b L) := by
  by_cases c : b = 0
  · rw [oc_pu_0 c]; exact hp
  · rw [oc_pu_1 c]; exact And.intro (by omega) (And.intro h hp)
theorem oc_pu_ms (b : Nat) (L : List Nat) : oc_ms (oc_pu b L) ≤ 3 ^ b + oc_ms L := by
  by_cases c : b = 0
  · rw [oc_pu_0 c]; exact Nat.le_add_left _ _
  · rw [oc_pu_1 c]; exact Nat.le_refl _
theorem oc_pu_R {P : Nat → Prop} (b : Nat) (L : List Nat) : (∃ x, x ∈ oc_pu b L ∧ P x) ↔ (b ≠ 0 ∧ P b) ∨ ∃ x, x ∈ L ∧ P x := by
  by_cases c : b = 0
  · rw [oc_pu_0 c]
    exact ⟨Or.inr, fun h => h.elim (fun z => absurd c z.1) id⟩
  · rw [oc_pu_1 c]
    constructor
    · rintro ⟨x, hx, hp⟩
      rcases List.mem_cons.mp hx with e | hx
      · exact Or.inl ⟨c, by rw [← e]; exact hp⟩
      · exact Or.inr ⟨x, hx, hp⟩
    · rintro (⟨_, hp⟩ | ⟨x, hx, hp⟩)
      · exact ⟨b, List.mem_cons_self, hp⟩
      · exact ⟨x, List.mem_cons_of_mem _ hx, hp⟩
theorem oc_pw {a b y : Nat} (hy : 1 ≤ y) (ha : a ≤ y - 1) (hb : b ≤ y - 1) : 3 ^ a + 3 ^ b < 3 ^ y := by
  obtain ⟨z, rfl⟩ : ∃ z, y = z + 1 := ⟨y - 1, by omega⟩
  have h1 : 3 ^ a ≤ 3 ^ z := Nat.pow_le_pow_right (by decide) (by omega)
  have h2 : 3 ^ b ≤ 3 ^ z := Nat.pow_le_pow_right (by decide) (by omega)
  have h3 : 0 < 3 ^ z := Nat.pow_pos (by decide)
  have h4 : 3 ^ (z + 1) = 3 ^ z * 3 := Nat.pow_succ _ _
  omega
/-- one turn of the reference's loop, over lists -/
theorem oc_Ystep {l r : Nat → Nat} {v y : Nat} {L : List Nat} {T : Prop} (hl : ∀ i, l i ≤ i - 1) (hr : ∀ i, r i ≤ i - 1) (hp : oc_Po (y :: L)) (hT : (∃ x, x ∈ y :: L ∧ oc_R l r v x) ↔ T) (ne : y ≠ v) :
    oc_ms (oc_pu (l y) (oc_pu (r y) L)) < oc_ms (y :: L) ∧ oc_Po (oc_pu (l y) (oc_pu (r y) L)) ∧ ((∃ x, x ∈ oc_pu (l y) (oc_pu (r y) L) ∧ oc_R l r v x) ↔ T) := by
  obtain ⟨h1, h2, h3⟩ := hp
  have hly := hl y
  have hry := hr y
  have hlen := oc_pu_len (r y) L
  refine ⟨?_, ?_, ?_⟩
  · have a1 := oc_pu_ms (l y) (oc_pu (r y) L)
    have a2 := oc_pu_ms (r y) L
    have a3 := oc_pw h1 hly hry
    show _ < 3 ^ y + oc_ms L
    omega
  · exact oc_pu_Po (by omega) (oc_pu_Po (by omega) h3)
  · rw [oc_pu_R, oc_pu_R, ← hT]
    constructor
    · rintro (⟨a, b⟩ | ⟨a, b⟩ | ⟨x, hx, hR⟩)
      · exact ⟨y, List.mem_cons_self, oc_R_l a b⟩
      · exact ⟨y, List.mem_cons_self, oc_R_r a b⟩
      · exact ⟨x, List.mem_cons_of_mem _ hx, hR⟩
    · rintro ⟨x, hx, hR⟩
      rcases List.mem_cons.mp hx with e | hx
      · rw [e] at hR
        rcases oc_R_c hR with e | h | h
        · exact absurd e ne
        · exact Or.inl h
        · exact Or.inr (Or.inl h)
      · exact Or.inr (Or.inr ⟨x, hx, hR⟩)
/-- a table of naturals with one entry set -/
def oc_up (q : Nat → Nat) (b x : Nat) : Nat → Nat := fun j => if j = b then x else q j
theorem oc_up_e {q : Nat → Nat} {b x j : Nat} (h : j = b) : oc_up q b x j = x := if_pos h
theorem oc_up_n {q : Nat → Nat} {b x j : Nat} (h : j ≠ b) : oc_up q b x j = q j := if_neg h
theorem oc_up_I (q : Nat → Nat) (b x : Nat) : upd (fun i => nI (q i)) b (nI x) = fun i => nI (oc_up q b x i) := by
  funext j
  by_cases h : j = b
  · rw [oc_up_e h, h]; exact pk_us
  · rw [oc_up_n h]; exact pk_un h
theorem oc_up_c {q : Nat → Nat} {b x : Nat} (hx : x < 65536) : upd (fun i => nI (q i)) b (vp_nar .char (nI x)) = fun i => nI (oc_up q b x i) := by
  have e : vp_nar .char (nI x) = nI x := Value.int.inj (pk_charN hx).1
  rw [e]; exact oc_up_I q b x
theorem oc_sh : ∀ b, b < 8 → (nI b).toInt16.toInt32 = nI b := by decide +kernel
theorem oc_up_h {q : Nat → Nat} {b x : Nat} (hx : x < 8) : upd (fun i => nI (q i)) b (vp_nar .short (nI x).toInt16.toInt32) = fun i => nI (oc_up q b x i) := by
  rw [pk_vs, oc_sh x hx]; exact oc_up_I q b x
/-- how many of 1 .. k aren't marked -/
def oc_cn (q : Nat → Nat) (g : Nat) : Nat → Nat
  | 0 => 0
  | k + 1 => oc_cn q g k + (if q (k + 1) = g then 0 else 1)
theorem oc_cn_le (q : Nat → Nat) (g : Nat) : ∀ k, oc_cn q g k ≤ k := by
  intro k
  induction k with
  | zero => exact Nat.le_refl _
  | succ k ih =>
    show oc_cn q g k + (if q (k + 1) = g then 0 else 1) ≤ k + 1
    by_cases c : q (k + 1) = g
    · rw [if_pos c]; omega
    · rw [if_neg c]; omega
theorem oc_cn_up {q : Nat → Nat} {g b : Nat} (hb : 1 ≤ b) (h : q b ≠ g) : ∀ k, (k < b → oc_cn (oc_up q b g) g k = oc_cn q g k) ∧ (b ≤ k → oc_cn (oc_up q b g) g k + 1 = oc_cn q g k) := by
  intro k
  induction k with
  | zero => exact ⟨fun _ => rfl, fun z => absurd z (by omega)⟩
  | succ k ih =>
    have e1 : oc_cn (oc_up q b g) g (k + 1) = oc_cn (oc_up q b g) g k + (if oc_up q b g (k + 1) = g then 0 else 1) := rfl
    have e2 : oc_cn q g (k + 1) = oc_cn q g k + (if q (k + 1) = g then 0 else 1) := rfl
    by_cases c : k + 1 = b
    · have hk : q (k + 1) ≠ g := by rw [c]; exact h
      rw [oc_up_e c, if_pos rfl] at e1
      rw [if_neg hk] at e2
      have i1 := ih.1 (by omega)
      exact ⟨fun z => absurd z (by omega), fun _ => by omega⟩
    · rw [oc_up_n c] at e1
      refine ⟨fun z => ?_, fun z => ?_⟩
      · rw [e1, e2, ih.1 (by omega)]
      · rw [e1, e2, ← ih.2 (by omega)]
        exact Nat.add_right_comm _ _ _
/-- what a push of child b by the component gives: new marks, a new stack -/
def oc_PX (g b : Nat) (q : Nat → Nat) (L : List Nat) (q' : Nat → Nat) (L' : List Nat) : Prop :=
  (∀ i, i < 8 → q' i ≤ g) ∧ L'.length + oc_cn q' g 7 = L.length + oc_cn q g 7 ∧ (∀ i, q i = g → q' i = g) ∧ (b ≠ 0 → q' b = g) ∧ (∀ i, q' i = g → q i = g ∨ i ∈ L') ∧ (∀ x, x ∈ L → x ∈ L') ∧ (∀ x, x ∈ L' → x ∈ L ∨ (x = b ∧ b ≠ 0))
theorem oc_PX_0 {g b : Nat} {q : Nat → Nat} {L : List Nat} (hq : ∀ i, i < 8 → q i ≤ g) (h : b ≠ 0 → q b = g) : oc_PX g b q L q L := by
  unfold oc_PX
  exact ⟨hq, rfl, fun _ z => z, h, fun _ z => Or.inl z, fun _ z => z, fun _ z => Or.inl z⟩
theorem oc_PX_1 {g b : Nat} {q : Nat → Nat} {L : List Nat} (hq : ∀ i, i < 8 → q i ≤ g) (hb : b ≠ 0) (hb7 : b ≤ 7) (h : q b ≠ g) : oc_PX g b q L (oc_up q b g) (b :: L) := by
  unfold oc_PX
  refine ⟨fun i hi => ?_, ?_, fun i hi => ?_, fun _ => oc_up_e rfl, fun i hi => ?_, fun x hx => List.mem_cons_of_mem _ hx, fun x hx => ?_⟩
  · by_cases c : i = b
    · exact Nat.le_of_eq (oc_up_e c)
    · exact Nat.le_trans (Nat.le_of_eq (oc_up_n c)) (hq i hi)
  · have e := (oc_cn_up (by omega : 1 ≤ b) h 7).2 hb7
    show L.length + 1 + oc_cn (oc_up q b g) g 7 = L.length + oc_cn q g 7
    omega
  · by_cases c : i = b
    · exact oc_up_e c
    · exact (oc_up_n c).trans hi
  · by_cases c : i = b
    · exact Or.inr (by rw [c]; exact List.mem_cons_self)
    · exact Or.inl ((oc_up_n c).symm.trans hi)
  · rcases List.mem_cons.mp hx with e | hx
    · exact Or.inr ⟨e, hb⟩
    · exact Or.inl hx
/-- the component's loop: what holds at its head -/
def oc_IX (l r : Nat → Nat) (v g t : Nat) (q : Nat → Nat) (L : List Nat) (f : Int32) : Prop :=
  (∀ i, i < 8 → q i ≤ g) ∧ L.length + oc_cn q g 7 ≤ 7 ∧ (∀ x, x ∈ L → x ≤ 7 ∧ (oc_R l r v x → oc_R l r v t)) ∧ (f = 0 ∨ (f = 1 ∧ oc_R l r v t)) ∧ (∀ x, x ≤ 7 → q x = g → x ∈ L ∨ ((x = v → f = 1) ∧ (l x ≠ 0 → q (l x) = g) ∧ (r x ≠ 0 → q (r x) = g))) ∧ q t = g
theorem oc_IX_0 {l r : Nat → Nat} {v g t : Nat} {q : Nat → Nat} (ht1 : 1 ≤ t) (ht : t ≤ 7) (hq : ∀ i, i < 8 → q i < g) : oc_IX l r v g t (oc_up q t g) [t] 0 := by
  have hne : q t ≠ g := Nat.ne_of_lt (hq t (by omega))
  have e := (oc_cn_up ht1 hne 7).2 ht
  have hc := oc_cn_le q g 7
  unfold oc_IX
  refine ⟨fun i hi => ?_, ?_, fun x hx => ?_, Or.inl rfl, fun x hx hqx => ?_, oc_up_e rfl⟩
  · by_cases c : i = t
    · exact Nat.le_of_eq (oc_up_e c)
    · exact Nat.le_trans (Nat.le_of_eq (oc_up_n c)) (Nat.le_of_lt (hq i hi))
  · show 0 + 1 + oc_cn (oc_up q t g) g 7 ≤ 7
    omega
  · have ex : x = t := List.mem_singleton.mp hx
    exact ⟨by omega, fun h => by rw [← ex]; exact h⟩
  · by_cases c : x = t
    · exact Or.inl (List.mem_singleton.mpr c)
    · have h1 : q x = g := (oc_up_n c).symm.trans hqx
      exact absurd h1 (Nat.ne_of_lt (hq x (by omega)))
theorem oc_IX_end {l r : Nat → Nat} {v g t : Nat} {q : Nat → Nat} {f : Int32} (hl : ∀ i, l i ≤ i - 1) (hr : ∀ i, r i ≤ i - 1) (ht : t ≤ 7) (h : oc_IX l r v g t q [] f) : (f = 1 ∧ oc_R l r v t) ∨ (f = 0 ∧ ¬ oc_R l r v t) := by
  obtain ⟨_, _, _, hf, hm, hqt⟩ := h
  have hm' : ∀ x, x ≤ 7 → q x = g → (x = v → f = 1) ∧ (l x ≠ 0 → q (l x) = g) ∧ (r x ≠ 0 → q (r x) = g) := by
    intro x hx hqx
    rcases hm x hx hqx with z | z
    · cases z
    · exact z
  have key : oc_R l r v t → f = 1 := by
    intro hR
    refine hR (fun x => x ≤ 7 → q x = g → f = 1) (fun hx hqx => (hm' v hx hqx).1 rfl) ?_ ?_ ht hqt
    · intro y h0 hS hy hqy
      have hly := hl y
      exact hS (by omega) ((hm' y hy hqy).2.1 h0)
    · intro y h0 hS hy hqy
      have hry := hr y
      exact hS (by omega) ((hm' y hy hqy).2.2 h0)
  rcases hf with e | h1
  · refine Or.inr ⟨e, fun hR => ?_⟩
    have e1 : (0 : Int32) = 1 := e.symm.trans (key hR)
    exact absurd e1 (by decide)
  · exact Or.inl h1
/-- one turn of the component's loop, over lists -/
theorem oc_IX_step {l r : Nat → Nat} {v g t y : Nat} {q q1 q2 : Nat → Nat} {L L1 L2 : List Nat} {f f' : Int32} (hl : ∀ i, l i ≤ i - 1) (hr : ∀ i, r i ≤ i - 1) (hI : oc_IX l r v g t q (y :: L) f) (P1 : oc_PX g (l y) q L q1 L1) (P2 : oc_PX g (r y) q1 L1 q2 L2) (h1 : y = v → f' = 1) (h2 : y ≠ v → f' = f) : oc_IX l r v g t q2 L2 f' := by
  obtain ⟨_, hlen, hx, hf, hm, hqt⟩ := hI
  obtain ⟨_, a2, a3, a4, a5, a6, a7⟩ := P1
  obtain ⟨b1, b2, b3, b4, b5, b6, b7⟩ := P2
  have hy := hx y List.mem_cons_self
  have hy7 : y ≤ 7 := hy.1
  have hl7 : l y ≤ 7 := Nat.le_trans (hl y) (Nat.le_trans (Nat.sub_le _ _) hy7)
  have hr7 : r y ≤ 7 := Nat.le_trans (hr y) (Nat.le_trans (Nat.sub_le _ _) hy7)
  have hlen' : L.length + 1 + oc_cn q g 7 ≤ 7 := hlen
  have hlen2 : L2.length + oc_cn q2 g 7 ≤ 7 := by rw [b2, a2]; clear h1 h2 hf; omega
  have hff : f = 1 → f' = 1 := by
    intro e
    by_cases c : y = v
    · exact h1 c
    · exact (h2 c).trans e
  unfold oc_IX
  refine ⟨b1, hlen2, ?_, ?_, ?_, b3 _ (a3 _ hqt)⟩
  · intro x hxm
    rcases b7 x hxm with h | ⟨e, h⟩
    · rcases a7 x h with h | ⟨e, h⟩
      · exact hx x (List.mem_cons_of_mem _ h)
      · rw [e]; exact ⟨hl7, fun R => hy.2 (oc_R_l h R)⟩
    · rw [e]; exact ⟨hr7, fun R => hy.2 (oc_R_r h R)⟩
  · by_cases c : y = v
    · exact Or.inr ⟨h1 c, hy.2 (oc_R_e c)⟩
    · rw [h2 c]; exact hf
  · intro x hx7 hqx
    rcases b5 x hqx with h | h
    · rcases a5 x h with h | h
      · rcases hm x hx7 h with h | ⟨c1, c2, c3⟩
        · rcases List.mem_cons.mp h with e | h
          · rw [e]; exact Or.inr ⟨h1, fun z => b3 _ (a4 z), b4⟩
          · exact Or.inl (b6 _ (a6 _ h))
        · exact Or.inr ⟨fun e => hff (c1 e), fun z => b3 _ (a3 _ (c2 z)), fun z => b3 _ (a3 _ (c3 z))⟩
      · exact Or.inl (b6 _ h)
    · exact Or.inl h
end
section
/-! the reference's walk: reach over a stack as a list -/
theorem oc_Y72 {post : Int32 → SY → Prop} {J : Int32 → (Nat → Int32) → (Nat → Int32) → (Nat → Int32) → Prop} {x1 g : Int32} {A B s : Nat → Int32} {L : List Nat} {b : Nat} (hb : b ≤ 7) (hL : L.length < 8) (hs : oc_St s L)
    (H : ∀ s', oc_St s' (oc_pu b L) → J (nI (oc_pu b L).length) A B s') : wY_reach_72 post J x1 (nI L.length) (nI b) g A B s := by
  have cL : (nI L.length).toNatClampNeg = L.length := nI_clamp (by omega)
  unfold wY_reach_72
  refine pk_eq b 0 (fun e => ?_) (fun ne => ?_)
  · have h := H s
    rw [oc_pu_0 e] at h
    exact h hs
  · refine And.intro (vp_in_nI hL (by decide)) (nm_r (e' := upd s L.length (nI b)) (by rw [cL]) (nm_r (e' := nI (L.length + 1)) (nI_1 _) ?_))
    have h := H (upd s L.length (nI b))
    rw [oc_pu_1 ne] at h
    exact h (oc_St_p hs)
theorem oc_Y13 {l r : Nat → Nat} {v : Nat} {g : Int32} {post : Int32 → SY → Prop} {T : Prop} (hl : ∀ i, l i ≤ i - 1) (hr : ∀ i, r i ≤ i - 1) (hv : v ≤ 7)
    (h1 : T → ∀ s, post 1 (g, (fun i => nI (l i)), (fun i => nI (r i)), s)) (h0 : ¬ T → ∀ s, post 0 (g, (fun i => nI (l i)), (fun i => nI (r i)), s)) :
    ∀ (n : Nat) (L : List Nat) (s : Nat → Int32), oc_ms L < n → oc_Po L → oc_St s L → ((∃ x, x ∈ L ∧ oc_R l r v x) ↔ T) →
      wY_reach_13 post (nI v) g n (nI L.length) (fun i => nI (l i)) (fun i => nI (r i)) s := by
  intro n
  induction n with
  | zero => intro L s hm; exact absurd hm (Nat.not_lt_zero _)
  | succ n ih =>
    intro L s hm hp hs hT
    cases L with
    | nil =>
      have hn : ¬ T := by
        intro t
        obtain ⟨x, hx, _⟩ := hT.mpr t
        cases hx
      have hc : nI ([] : List Nat).length ≤ 0 := by decide +kernel
      exact br_t hc (h0 hn s)
    | cons y L =>
      have hp' := hp
      obtain ⟨hy1, hy2, _⟩ := hp'
      obtain ⟨hs1, hs2⟩ := hs
      have hly := hl y
      have hry := hr y
      have hn : ¬ nI (L.length + 1) ≤ 0 := nI_nle (by omega) (by omega)
      have cL : (nI L.length).toNatClampNeg = L.length := nI_clamp (by omega)
      have cy : (nI y).toNatClampNeg = y := nI_clamp (by omega)
      have iL : vp_in (nI L.length) 8 := vp_in_nI (by omega) (by decide)
      have iy : vp_in (nI y) 8 := vp_in_nI (by omega) (by decide)
      have es : s (nI L.length).toNatClampNeg = nI y := by rw [cL]; exact hs1
      have el : (fun i => nI (l i)) (nI y).toNatClampNeg = nI (l y) := congrArg (fun i => nI (l i)) cy
      have er : (fun i => nI (r i)) (nI y).toNatClampNeg = nI (r y) := congrArg (fun i => nI (r i)) cy
      refine br_f hn (nm_r (e' := nI L.length) (nI_pred _) (And.intro iL (nm_r (e' := nI y) es ?_)))
      refine pk_eq y v (fun e => h1 (hT.mp ⟨y, List.mem_cons_self, oc_R_e e⟩) s) (fun ne => ?_)
      obtain ⟨f1, f2, f3⟩ := oc_Ystep hl hr hp hT ne
      have f1' : oc_ms (oc_pu (l y) (oc_pu (r y) L)) < n := by omega
      have hlen := oc_pu_len (r y) L
      have K : ∀ L1 s1, oc_pu (r y) L = L1 → oc_St s1 L1 → wY_reach_72 post (wY_reach_13 post (nI v) g n) (nI v) (nI L1.length) (nI (l y)) g (fun i => nI (l i)) (fun i => nI (r i)) s1 := by
        intro L1 s1 e hs1
        subst e
        exact oc_Y72 (by omega) (by omega) hs1 (fun s' hs' => ih _ s' f1' f2 hs' f3)
      refine And.intro iy (nm_r (e' := nI (l y)) el (And.intro iy (nm_r (e' := nI (r y)) er ?_)))
      refine pk_eq (r y) 0 (fun e => K L s (oc_pu_0 e) hs2) (fun ne' => And.intro iL ?_)
      exact nm_r (e' := upd s L.length (nI (r y))) (by rw [cL]) (nm_r (e' := nI (L.length + 1)) (nI_1 _) (K (r y :: L) _ (oc_pu_1 ne') (oc_St_p hs2)))
theorem oc_Yr {l r : Nat → Nat} {v t : Nat} {g : Int32} {s : Nat → Int32} {post : Int32 → SY → Prop} (hl : ∀ i, l i ≤ i - 1) (hr : ∀ i, r i ≤ i - 1) (hv : v ≤ 7) (ht1 : 1 ≤ t) (ht : t ≤ 7)
    (h1 : oc_R l r v t → ∀ s, post 1 (g, (fun i => nI (l i)), (fun i => nI (r i)), s)) (h0 : ¬ oc_R l r v t → ∀ s, post 0 (g, (fun i => nI (l i)), (fun i => nI (r i)), s)) :
    wpY_reach post (g, (fun i => nI (l i)), (fun i => nI (r i)), s) (nI v) (nI t) := by
  unfold wpY_reach
  have e1 : (0 : Int32) + 1 = nI 1 := by decide +kernel
  refine nm_r (e' := upd s 0 (nI t)) rfl (nm_r (e' := nI 1) e1 ⟨oc_ms [t] + 1, ?_⟩)
  refine oc_Y13 hl hr hv h1 h0 (oc_ms [t] + 1) [t] (upd s 0 (nI t)) (Nat.lt_succ_self _) ?_ ?_ ?_
  · exact And.intro ht1 (And.intro ht trivial)
  · exact oc_St_p (L := []) trivial
  · constructor
    · rintro ⟨x, hx, hR⟩
      rw [List.mem_singleton.mp hx] at hR
      exact hR
    · exact fun hR => ⟨t, List.mem_singleton.mpr rfl, hR⟩
theorem oc_Y44 {l r : Nat → Nat} {v t : Nat} {g : Int32} {s : Nat → Int32} {post : Int32 → SY → Prop} (hl : ∀ i, l i ≤ i - 1) (hr : ∀ i, r i ≤ i - 1) (hv : v ≤ 7) (ht1 : 1 ≤ t) (ht : t ≤ 7)
    (h1 : oc_R l r v t → ∀ s, post 1 (g, (fun i => nI (l i)), (fun i => nI (r i)), s)) (h0 : ¬ oc_R l r v t → ∀ s, post 0 (g, (fun i => nI (l i)), (fun i => nI (r i)), s)) :
    wY_occurs_44 post (nI v) (nI t) g (fun i => nI (l i)) (fun i => nI (r i)) s := by
  unfold wY_occurs_44
  refine oc_Yr hl hr hv ht1 ht (fun hT s' => ?_) (fun hT s' => ?_)
  · exact And.intro narrow_b1 (h1 hT s')
  · exact And.intro narrow_b0 (h0 hT s')
/-- the next generation: 65535 wraps to 1 -/
def oc_ng (g : Nat) : Nat := if g + 1 = 65536 then 1 else g + 1
theorem oc_gen {g : Nat} (hg : g < 65536) : ((nI g + 1).toUInt32 % 65536).toInt32 = nI ((g + 1) % 65536) := by
  rw [pk_char, nI_1, pk_tn (by omega)]
theorem oc_ng_0 {g : Nat} (h : (g + 1) % 65536 = 0) (hg : g < 65536) : oc_ng g = 1 := if_pos (by omega)
theorem oc_ng_1 {g : Nat} (h : (g + 1) % 65536 ≠ 0) (hg : g < 65536) : oc_ng g = (g + 1) % 65536 := (if_neg (by omega)).trans (by omega)
theorem oc_Y {l r : Nat → Nat} {v t g : Nat} {s : Nat → Int32} {post : Int32 → SY → Prop} (hl : ∀ i, l i ≤ i - 1) (hr : ∀ i, r i ≤ i - 1) (hg : g < 65536) (hv1 : 1 ≤ v) (hv : v ≤ 7) (ht1 : 1 ≤ t) (ht : t ≤ 7)
    (h1 : oc_R l r v t → ∀ s, post 1 (nI (oc_ng g), (fun i => nI (l i)), (fun i => nI (r i)), s)) (h0 : ¬ oc_R l r v t → ∀ s, post 0 (nI (oc_ng g), (fun i => nI (l i)), (fun i => nI (r i)), s)) :
    wpY_occurs post (nI g, (fun i => nI (l i)), (fun i => nI (r i)), s) (nI v) (nI t) := by
  have a1 : ¬ nI v < 1 := nI_nlt (b := 1) hv1 (by omega)
  have a2 : ¬ 7 < nI v := nI_nlt (a := 7) hv (by decide)
  have a3 : ¬ nI t < 1 := nI_nlt (b := 1) ht1 (by omega)
  have a4 : nI t ≤ 7 := nI_le (b := 7) ht (by decide)
  have hm : (g + 1) % 65536 < 65536 := Nat.mod_lt _ (by decide)
  unfold wpY_occurs
  refine br_f a1 (br_f a2 (br_f a3 (br_t a4 (nm_r (oc_gen hg) (And.intro (pk_charN hm).1 (And.intro (pk_charN hm).2 ?_))))))
  refine pk_eq ((g + 1) % 65536) 0 (fun e => ?_) (fun ne => ?_) (hx := oc_gen hg)
  · rw [oc_ng_0 e hg] at h1 h0
    exact oc_Y44 hl hr hv ht1 ht h1 h0
  · rw [oc_ng_1 ne hg] at h1 h0
    exact oc_Y44 hl hr hv ht1 ht h1 h0
end
section
/-! the component's walk: occurs over a stack as a list and marks as a table of naturals -/
theorem oc_X194 {l r q : Nat → Nat} {g y v : Nat} {post : Int32 → SX → Prop} {J : Int32 → Int32 → (Nat → Int32) → (Nat → Int32) → (Nat → Int32) → (Nat → Int32) → Prop} {f : Int32} {L : List Nat} {s : Nat → Int32}
    (hg : g < 65536) (hq : ∀ i, i < 8 → q i ≤ g) (hy : y ≤ 7) (hb : r y ≤ 7) (hs : oc_St s L) (hL : L.length + oc_cn q g 7 ≤ 7)
    (H : ∀ q' L' s', oc_PX g (r y) q L q' L' → oc_St s' L' → J f (nI L'.length) (fun i => nI (l i)) (fun i => nI (r i)) (fun i => nI (q' i)) s') :
    wX_occurs_194 post J (nI v) f (nI L.length) (nI y) (nI g) (fun i => nI (l i)) (fun i => nI (r i)) (fun i => nI (q i)) s := by
  have hL7 : L.length ≤ 7 := by omega
  have cL : (nI L.length).toNatClampNeg = L.length := nI_clamp (by omega)
  have cy : (nI y).toNatClampNeg = y := nI_clamp (by omega)
  have cb : (nI (r y)).toNatClampNeg = r y := nI_clamp (by omega)
  have iL : vp_in (nI L.length) 8 := vp_in_nI (by omega) (by decide)
  have iy : vp_in (nI y) 8 := vp_in_nI (by omega) (by decide)
  have ib : vp_in (nI (r y)) 8 := vp_in_nI (by omega) (by decide)
  have eb : (fun i => nI (r i)) (nI y).toNatClampNeg = nI (r y) := congrArg (fun i => nI (r i)) cy
  have eq' : (fun i => nI (q i)) (nI (r y)).toNatClampNeg = nI (q (r y)) := congrArg (fun i => nI (q i)) cb
  have hqb := hq (r y) (by omega)
  unfold wX_occurs_194
  refine And.intro iy (nm_r (e' := nI (r y)) eb ?_)
  refine pk_lt (r y) 1 (fun h => H q L s (oc_PX_0 hq (fun z => absurd h (by omega))) hs) (fun h1 => ?_)
  refine pk_lt 7 (r y) (fun h => absurd h (by omega)) (fun _ => ?_)
  refine And.intro ib ?_
  refine pk_eq (q (r y)) g (fun h => H q L s (oc_PX_0 hq (fun _ => h)) hs) (fun hne => ?_) (hx := eq')
  refine pk_le 8 L.length (fun h => absurd h (by omega)) (fun _ => ?_)
  refine And.intro ib (nm_r (e' := fun i => nI (oc_up q (r y) g i)) (by rw [cb]; exact oc_up_c hg) ?_)
  refine And.intro iL (nm_r (e' := upd s L.length (nI (r y))) (by rw [cL]) (nm_r (e' := nI (L.length + 1)) (nI_1 _) ?_))
  exact H (oc_up q (r y) g) (r y :: L) _ (oc_PX_1 hq (by omega) hb hne) (oc_St_p hs)
theorem oc_X125 {l r q : Nat → Nat} {g y v : Nat} {post : Int32 → SX → Prop} {J : Int32 → Int32 → (Nat → Int32) → (Nat → Int32) → (Nat → Int32) → (Nat → Int32) → Prop} {f : Int32} {L : List Nat} {s : Nat → Int32}
    (hg : g < 65536) (hq : ∀ i, i < 8 → q i ≤ g) (hy : y ≤ 7) (hb : l y ≤ 7) (hs : oc_St s L) (hL : L.length + oc_cn q g 7 ≤ 7)
    (H : ∀ q' L' s', oc_PX g (l y) q L q' L' → oc_St s' L' → wX_occurs_194 post J (nI v) f (nI L'.length) (nI y) (nI g) (fun i => nI (l i)) (fun i => nI (r i)) (fun i => nI (q' i)) s') :
    wX_occurs_125 post J (nI v) f (nI L.length) (nI y) (nI g) (fun i => nI (l i)) (fun i => nI (r i)) (fun i => nI (q i)) s := by
  have hL7 : L.length ≤ 7 := by omega
  have cL : (nI L.length).toNatClampNeg = L.length := nI_clamp (by omega)
  have cy : (nI y).toNatClampNeg = y := nI_clamp (by omega)
  have cb : (nI (l y)).toNatClampNeg = l y := nI_clamp (by omega)
  have iL : vp_in (nI L.length) 8 := vp_in_nI (by omega) (by decide)
  have iy : vp_in (nI y) 8 := vp_in_nI (by omega) (by decide)
  have ib : vp_in (nI (l y)) 8 := vp_in_nI (by omega) (by decide)
  have eb : (fun i => nI (l i)) (nI y).toNatClampNeg = nI (l y) := congrArg (fun i => nI (l i)) cy
  have eq' : (fun i => nI (q i)) (nI (l y)).toNatClampNeg = nI (q (l y)) := congrArg (fun i => nI (q i)) cb
  have hqb := hq (l y) (by omega)
  unfold wX_occurs_125
  refine And.intro iy (nm_r (e' := nI (l y)) eb ?_)
  refine pk_lt (l y) 1 (fun h => H q L s (oc_PX_0 hq (fun z => absurd h (by omega))) hs) (fun h1 => ?_)
  refine pk_lt 7 (l y) (fun h => absurd h (by omega)) (fun _ => ?_)
  refine And.intro ib ?_
  refine pk_eq (q (l y)) g (fun h => H q L s (oc_PX_0 hq (fun _ => h)) hs) (fun hne => ?_) (hx := eq')
  refine pk_le 8 L.length (fun h => absurd h (by omega)) (fun _ => ?_)
  refine And.intro ib (nm_r (e' := fun i => nI (oc_up q (l y) g i)) (by rw [cb]; exact oc_up_c hg) ?_)
  refine And.intro iL (nm_r (e' := upd s L.length (nI (l y))) (by rw [cL]) (nm_r (e' := nI (L.length + 1)) (nI_1 _) ?_))
  exact H (oc_up q (l y) g) (l y :: L) _ (oc_PX_1 hq (by omega) hb hne) (oc_St_p hs)
theorem oc_X97 {l r : Nat → Nat} {g t v : Nat} {post : Int32 → SX → Prop} (hl : ∀ i, l i ≤ i - 1) (hr : ∀ i, r i ≤ i - 1) (hg : g < 65536) (hv : v ≤ 7) (ht : t ≤ 7)
    (h1 : oc_R l r v t → ∀ (q : Nat → Nat) (s : Nat → Int32), (∀ i, i < 8 → q i ≤ g) → post 1 (nI g, (fun i => nI (l i)), (fun i => nI (r i)), (fun i => nI (q i)), s))
    (h0 : ¬ oc_R l r v t → ∀ (q : Nat → Nat) (s : Nat → Int32), (∀ i, i < 8 → q i ≤ g) → post 0 (nI g, (fun i => nI (l i)), (fun i => nI (r i)), (fun i => nI (q i)), s)) :
    ∀ (n : Nat) (L : List Nat) (q : Nat → Nat) (s : Nat → Int32) (f : Int32), L.length + oc_cn q g 7 < n → oc_IX l r v g t q L f → oc_St s L →
      wX_occurs_97 post (nI v) (nI g) n f (nI L.length) (fun i => nI (l i)) (fun i => nI (r i)) (fun i => nI (q i)) s := by
  intro n
  induction n with
  | zero => intro L q s f hm; exact absurd hm (Nat.not_lt_zero _)
  | succ n ih =>
    intro L q s f hm hI hs
    have hI' := hI
    obtain ⟨hq, hlen, hx, _, _, _⟩ := hI'
    cases L with
    | nil =>
      have hc : nI ([] : List Nat).length ≤ 0 := by decide +kernel
      refine br_t hc ?_
      rcases oc_IX_end hl hr ht hI with ⟨e, hT⟩ | ⟨e, hT⟩
      · subst e
        exact And.intro narrow_b1 (h1 hT q s hq)
      · subst e
        exact And.intro narrow_b0 (h0 hT q s hq)
    | cons y L =>
      obtain ⟨hs1, hs2⟩ := hs
      have hlen' : L.length + 1 + oc_cn q g 7 ≤ 7 := hlen
      have hm' : L.length + 1 + oc_cn q g 7 < n + 1 := hm
      have hy : y ≤ 7 := (hx y List.mem_cons_self).1
      have hl7 : l y ≤ 7 := Nat.le_trans (hl y) (Nat.le_trans (Nat.sub_le _ _) hy)
      have hr7 : r y ≤ 7 := Nat.le_trans (hr y) (Nat.le_trans (Nat.sub_le _ _) hy)
      have hn : ¬ nI (L.length + 1) ≤ 0 := nI_nle (by omega) (by omega)
      have cL : (nI L.length).toNatClampNeg = L.length := nI_clamp (by omega)
      have iL : vp_in (nI L.length) 8 := vp_in_nI (by omega) (by decide)
      have es : s (nI L.length).toNatClampNeg = nI y := by rw [cL]; exact hs1
      have K : ∀ f', (y = v → f' = 1) → (y ≠ v → f' = f) → wX_occurs_125 post (wX_occurs_97 post (nI v) (nI g) n) (nI v) f' (nI L.length) (nI y) (nI g) (fun i => nI (l i)) (fun i => nI (r i)) (fun i => nI (q i)) s := by
        intro f' hf1 hf2
        have hLc : L.length + oc_cn q g 7 ≤ 7 := by clear hf1 hf2; omega
        refine oc_X125 hg hq hy hl7 hs2 hLc (fun q1 L1 s1 P1 hs1 => ?_)
        have p1 := P1.2.1
        have hLc1 : L1.length + oc_cn q1 g 7 ≤ 7 := by rw [p1]; exact hLc
        refine oc_X194 hg P1.1 hy hr7 hs1 hLc1 (fun q2 L2 s2 P2 hs2 => ?_)
        have p2 := P2.2.1
        have hm2 : L2.length + oc_cn q2 g 7 < n := by rw [p2, p1]; clear hf1 hf2; omega
        exact ih L2 q2 s2 f' hm2 (oc_IX_step hl hr hI P1 P2 hf1 hf2) hs2
      refine br_f hn (nm_r (e' := nI L.length) (nI_pred _) (And.intro iL (nm_r (e' := nI y) es ?_)))
      exact pk_eq y v (fun e => K 1 (fun _ => rfl) (fun ne => absurd e ne)) (fun ne => K f (fun e => absurd e ne) (fun _ => rfl))
theorem oc_X68 {l r q : Nat → Nat} {g t v : Nat} {s : Nat → Int32} {post : Int32 → SX → Prop} (hl : ∀ i, l i ≤ i - 1) (hr : ∀ i, r i ≤ i - 1) (hg : g < 65536) (hv : v ≤ 7) (ht1 : 1 ≤ t) (ht : t ≤ 7) (hq : ∀ i, i < 8 → q i < g)
    (h1 : oc_R l r v t → ∀ (q : Nat → Nat) (s : Nat → Int32), (∀ i, i < 8 → q i ≤ g) → post 1 (nI g, (fun i => nI (l i)), (fun i => nI (r i)), (fun i => nI (q i)), s))
    (h0 : ¬ oc_R l r v t → ∀ (q : Nat → Nat) (s : Nat → Int32), (∀ i, i < 8 → q i ≤ g) → post 0 (nI g, (fun i => nI (l i)), (fun i => nI (r i)), (fun i => nI (q i)), s)) :
    wX_occurs_68 post (nI v) (nI t) (nI g) (fun i => nI (l i)) (fun i => nI (r i)) (fun i => nI (q i)) s := by
  have ct : (nI t).toNatClampNeg = t := nI_clamp (by omega)
  have it : vp_in (nI t) 8 := vp_in_nI (by omega) (by decide)
  have e1 : (0 : Int32) + 1 = nI 1 := by decide +kernel
  have hI := oc_IX_0 (l := l) (r := r) (v := v) ht1 ht hq
  have hI' := hI
  obtain ⟨_, hlen, _, _, _, _⟩ := hI'
  unfold wX_occurs_68
  refine And.intro it (nm_r (e' := fun i => nI (oc_up q t g i)) (by rw [ct]; exact oc_up_c hg) (nm_r (e' := upd s 0 (nI t)) rfl (nm_r (e' := nI 1) e1 ⟨8, ?_⟩)))
  exact oc_X97 hl hr hg hv ht h1 h0 8 [t] (oc_up q t g) (upd s 0 (nI t)) 0 (Nat.lt_succ_of_le hlen) hI (oc_St_p (L := []) trivial)
theorem oc_X44 {A B s : Nat → Int32} {x1 x2 f : Int32} {post : Int32 → SX → Prop} (H : ∀ q : Nat → Nat, (∀ j, j < 8 → q j = 0) → wX_occurs_68 post x1 x2 1 A B (fun i => nI (q i)) s) :
    ∀ (d i : Nat) (q : Nat → Nat), i + d = 8 → (∀ j, j < i → q j = 0) → wX_occurs_44 post x1 x2 f (d + 1) (nI i) A B (fun i => nI (q i)) s := by
  intro d
  induction d with
  | zero =>
    intro i q hi hq
    have h8 : (8 : Int32) ≤ nI i := nI_le (a := 8) (by omega) (by omega)
    exact br_t h8 (H q (fun j hj => hq j (by omega)))
  | succ d ih =>
    intro i q hi hq
    have h8 : ¬ (8 : Int32) ≤ nI i := nI_ge (b := 8) (by omega) (by decide)
    have ci : (nI i).toNatClampNeg = i := nI_clamp (by omega)
    have ii : vp_in (nI i) 8 := vp_in_nI (by omega) (by decide)
    have e0 : upd (fun i => nI (q i)) (nI i).toNatClampNeg (vp_nar .char 0) = fun j => nI (oc_up q i 0 j) := by
      rw [ci, ← nI_0]; exact oc_up_c (by decide)
    refine br_f h8 (And.intro ii (nm_r (e' := fun j => nI (oc_up q i 0 j)) e0 (nm_r (e' := nI (i + 1)) (nI_1 i) (ih (i + 1) (oc_up q i 0) (by omega) ?_))))
    intro j hj
    by_cases c : j = i
    · exact oc_up_e c
    · exact (oc_up_n c).trans (hq j (by omega))
theorem oc_X {l r q : Nat → Nat} {v t g : Nat} {s : Nat → Int32} {post : Int32 → SX → Prop} (hl : ∀ i, l i ≤ i - 1) (hr : ∀ i, r i ≤ i - 1) (hg : g < 65536) (hq : ∀ i, i < 8 → q i ≤ g) (hv1 : 1 ≤ v) (hv : v ≤ 7) (ht1 : 1 ≤ t) (ht : t ≤ 7)
    (h1 : oc_R l r v t → ∀ (q : Nat → Nat) (s : Nat → Int32), (∀ i, i < 8 → q i ≤ oc_ng g) → post 1 (nI (oc_ng g), (fun i => nI (l i)), (fun i => nI (r i)), (fun i => nI (q i)), s))
    (h0 : ¬ oc_R l r v t → ∀ (q : Nat → Nat) (s : Nat → Int32), (∀ i, i < 8 → q i ≤ oc_ng g) → post 0 (nI (oc_ng g), (fun i => nI (l i)), (fun i => nI (r i)), (fun i => nI (q i)), s)) :
    wpX_occurs post (nI g, (fun i => nI (l i)), (fun i => nI (r i)), (fun i => nI (q i)), s) (nI v) (nI t) := by
  have a1 : ¬ nI v < 1 := nI_nlt (b := 1) hv1 (by omega)
  have a2 : ¬ 7 < nI v := nI_nlt (a := 7) hv (by decide)
  have a3 : ¬ nI t < 1 := nI_nlt (b := 1) ht1 (by omega)
  have a4 : nI t ≤ 7 := nI_le (b := 7) ht (by decide)
  have hm : (g + 1) % 65536 < 65536 := Nat.mod_lt _ (by decide)
  unfold wpX_occurs
  refine br_f a1 (br_f a2 (br_f a3 (br_t a4 (nm_r (oc_gen hg) (And.intro (pk_charN hm).1 (And.intro (pk_charN hm).2 ?_))))))
  refine pk_eq ((g + 1) % 65536) 0 (fun e => ?_) (fun ne => ?_)
  · rw [oc_ng_0 e hg] at h1 h0
    refine ⟨9, oc_X44 (fun q' hq' => ?_) 8 0 q rfl (fun j hj => absurd hj (Nat.not_lt_zero _))⟩
    exact oc_X68 (g := 1) hl hr (by decide) hv ht1 ht (fun i hi => by rw [hq' i hi]; decide) h1 h0
  · rw [oc_ng_1 ne hg] at h1 h0
    have hq2 : ∀ i, i < 8 → q i < (g + 1) % 65536 := by
      intro i hi
      have := hq i hi
      omega
    exact oc_X68 hl hr hm hv ht1 ht hq2 h1 h0
end
section
/-! the relation and what is owed -/
/-- one generation, the same children (each less than its node), no mark beyond the generation; the stacks are free -/
def i_Rel (_ : Nat) (u : SX) (v : SY) : Prop :=
  ∃ (g : Nat) (l r q : Nat → Nat) (s1 s2 : Nat → Int32), u = (nI g, (fun i => nI (l i)), (fun i => nI (r i)), (fun i => nI (q i)), s1) ∧ v = (nI g, (fun i => nI (l i)), (fun i => nI (r i)), s2) ∧ g < 65536 ∧ (∀ i, l i ≤ i - 1) ∧ (∀ i, r i ≤ i - 1) ∧ (∀ i, i < 8 → q i ≤ g)
theorem oc_rel {k g : Nat} {l r q : Nat → Nat} {s1 s2 : Nat → Int32} (hg : g < 65536) (hl : ∀ i, l i ≤ i - 1) (hr : ∀ i, r i ≤ i - 1) (hq : ∀ i, i < 8 → q i ≤ g) :
    i_Rel k (nI g, (fun i => nI (l i)), (fun i => nI (r i)), (fun i => nI (q i)), s1) (nI g, (fun i => nI (l i)), (fun i => nI (r i)), s2) :=
  ⟨g, l, r, q, s1, s2, rfl, rfl, hg, hl, hr, hq⟩
theorem i_up {k : Nat} {u : SX} {v : SY} (h : i_Rel k u v) : i_Rel (k + 4) u v := h
theorem i_vc0 (k0 : Int32) : wpX_init (fun u => wpY_init (fun v => i_Rel 1 u v) k0) k0 := by
  have hm : k0.toBitVec.toNat % 65536 < 65536 := Nat.mod_lt _ (by decide)
  unfold wpX_init wpY_init
  refine nm_r (pk_char k0) (And.intro (pk_charN hm).1 (And.intro (pk_charN hm).2 ?_))
  refine nm_r (pk_char k0) (And.intro (pk_charN hm).1 (And.intro (pk_charN hm).2 ?_))
  exact oc_rel (l := fun _ => 0) (r := fun _ => 0) (q := fun _ => 0) hm (fun _ => Nat.zero_le _) (fun _ => Nat.zero_le _) (fun _ _ => Nat.zero_le _)
theorem oc_17 {x : Int32} (h1 : ¬ x < 1) (h7 : x ≤ 7) : ∃ a, 1 ≤ a ∧ a ≤ 7 ∧ x = nI a := by
  have h0 : ¬ x < 0 := by
    have e0 : (0 : Int32).toInt = 0 := by decide
    have e1 : (1 : Int32).toInt = 1 := by decide
    rw [Int32.lt_iff_toInt_lt, e1] at h1
    rw [Int32.lt_iff_toInt_lt, e0]
    omega
  obtain ⟨a, ha, rfl⟩ := nI_of2 (M := 7) (n := 7) (by decide) h0 h7
  exact ⟨a, Nat.le_of_not_lt (fun h => h1 (nI_lt (b := 1) h (by decide))), ha, rfl⟩
theorem i_vc_setNode {k : Nat} {u : SX} {v : SY} (I : i_Rel k u v) (hk : k + 4 ≤ 2049) (v1 : Int32) (v2 : Int32) (v3 : Int32) : wpX_setNode (fun r u' => wpY_setNode (fun r' v' => r' = r ∧ i_Rel (k + 4) u' v') v v1 v2 v3) u v1 v2 v3 := by
  obtain ⟨g, l, r, q, s1, s2, rfl, rfl, hg, hl, hr, hq⟩ := I
  have R := oc_rel (k := k + 4) (s1 := s1) (s2 := s2) hg hl hr hq
  unfold wpX_setNode wpY_setNode
  by_cases c1 : v1 < 1
  · exact br_t c1 (br_t c1 ⟨rfl, R⟩)
  by_cases c7 : v1 ≤ 7
  case neg => exact br_f c1 (br_f c7 (br_f c1 (br_f c7 ⟨rfl, R⟩)))
  obtain ⟨t, ht1, ht7, rfl⟩ := oc_17 c1 c7
  have et : nI t - 1 = nI (t - 1) := by
    obtain ⟨m, rfl⟩ : ∃ m, t = m + 1 := ⟨t - 1, by omega⟩
    exact nI_pred m
  by_cases d1 : v2 < 0
  · exact br_f c1 (br_t c7 (br_t d1 (br_f c1 (br_t c7 (br_t d1 ⟨rfl, R⟩)))))
  obtain ⟨b, hb, rfl⟩ := nI_of d1
  by_cases d2 : b < t
  case neg =>
    have x2 : nI t - 1 < nI b := by rw [et]; exact nI_lt (by omega) hb
    have y2 : nI t ≤ nI b := nI_le (by omega) hb
    exact br_f c1 (br_t c7 (br_f d1 (br_t x2 (br_f c1 (br_t c7 (br_f d1 (br_t y2 ⟨rfl, R⟩)))))))
  have x2 : ¬ nI t - 1 < nI b := by rw [et]; exact nI_nlt (by omega) (by omega)
  have y2 : ¬ nI t ≤ nI b := nI_ge d2 (by omega)
  by_cases d3 : v3 < 0
  · exact br_f c1 (br_t c7 (br_f d1 (br_f x2 (br_t d3 (br_f c1 (br_t c7 (br_f d1 (br_f y2 (br_t d3 ⟨rfl, R⟩)))))))))
  obtain ⟨c, hc, rfl⟩ := nI_of d3
  by_cases d4 : c < t
  case neg =>
    have x4 : ¬ nI c ≤ nI t - 1 := by rw [et]; exact nI_ge (by omega) hc
    have y4 : ¬ nI c < nI t := nI_nlt (by omega) hc
    exact br_f c1 (br_t c7 (br_f d1 (br_f x2 (br_f d3 (br_f x4 (br_f c1 (br_t c7 (br_f d1 (br_f y2 (br_f d3 (br_f y4 ⟨rfl, R⟩)))))))))))
  have x4 : nI c ≤ nI t - 1 := by rw [et]; exact nI_le (by omega) (by omega)
  have y4 : nI c < nI t := nI_lt d4 (by omega)
  have ct : (nI t).toNatClampNeg = t := nI_clamp (by omega)
  have it : vp_in (nI t) 8 := vp_in_nI (by omega) (by decide)
  have eL : upd (fun i => nI (l i)) (nI t).toNatClampNeg (vp_nar .short (nI b).toInt16.toInt32) = fun i => nI (oc_up l t b i) := by rw [ct]; exact oc_up_h (by omega)
  have eR : upd (fun i => nI (r i)) (nI t).toNatClampNeg (vp_nar .short (nI c).toInt16.toInt32) = fun i => nI (oc_up r t c i) := by rw [ct]; exact oc_up_h (by omega)
  have hl' : ∀ i, oc_up l t b i ≤ i - 1 := by
    intro i
    by_cases e : i = t
    · rw [oc_up_e e]; omega
    · rw [oc_up_n e]; exact hl i
  have hr' : ∀ i, oc_up r t c i ≤ i - 1 := by
    intro i
    by_cases e : i = t
    · rw [oc_up_e e]; omega
    · rw [oc_up_n e]; exact hr i
  have R' := oc_rel (k := k + 4) (s1 := s1) (s2 := s2) hg hl' hr' hq
  refine br_f c1 (br_t c7 (br_f d1 (br_f x2 (br_f d3 (br_t x4 (And.intro it (nm_r eL (And.intro it (nm_r eR ?_)))))))))
  exact br_f c1 (br_t c7 (br_f d1 (br_f y2 (br_f d3 (br_t y4 (And.intro it (nm_r eL (And.intro it (nm_r eR ⟨rfl, R'⟩)))))))))
theorem i_vc_occurs {k : Nat} {u : SX} {v : SY} (I : i_Rel k u v) (hk : k + 4 ≤ 2049) (v1 : Int32) (v2 : Int32) : wpX_occurs (fun r u' => wpY_occurs (fun r' v' => r' = r ∧ i_Rel (k + 4) u' v') v v1 v2) u v1 v2 := by
  obtain ⟨g, l, r, q, s1, s2, rfl, rfl, hg, hl, hr, hq⟩ := I
  have R := oc_rel (k := k + 4) (s1 := s1) (s2 := s2) hg hl hr hq
  by_cases c1 : v1 < 1
  · unfold wpX_occurs wpY_occurs
    exact br_t c1 (br_t c1 ⟨rfl, R⟩)
  by_cases c2 : 7 < v1
  · unfold wpX_occurs wpY_occurs
    exact br_f c1 (br_t c2 (br_f c1 (br_t c2 ⟨rfl, R⟩)))
  by_cases c3 : v2 < 1
  · unfold wpX_occurs wpY_occurs
    exact br_f c1 (br_f c2 (br_t c3 (br_f c1 (br_f c2 (br_t c3 ⟨rfl, R⟩)))))
  by_cases c4 : v2 ≤ 7
  case neg =>
    unfold wpX_occurs wpY_occurs
    exact br_f c1 (br_f c2 (br_f c3 (br_f c4 (br_f c1 (br_f c2 (br_f c3 (br_f c4 ⟨rfl, R⟩)))))))
  obtain ⟨a, ha1, ha7, rfl⟩ := oc_17 c1 (Int32.not_lt.mp c2)
  obtain ⟨t, ht1, ht7, rfl⟩ := oc_17 c3 c4
  have hg' : oc_ng g < 65536 := by
    by_cases e : (g + 1) % 65536 = 0
    · rw [oc_ng_0 e hg]; decide
    · rw [oc_ng_1 e hg]; exact Nat.mod_lt _ (by decide)
  refine oc_X hl hr hg hq ha1 ha7 ht1 ht7 (fun hT q' s' hq' => ?_) (fun hT q' s' hq' => ?_)
  · exact oc_Y hl hr hg ha1 ha7 ht1 ht7 (fun _ s'' => ⟨rfl, oc_rel hg' hl hr hq'⟩) (fun hn => absurd hT hn)
  · exact oc_Y hl hr hg ha1 ha7 ht1 ht7 (fun hp => absurd hp hT) (fun _ s'' => ⟨rfl, oc_rel hg' hl hr hq'⟩)
theorem i_vc_generation {k : Nat} {u : SX} {v : SY} (I : i_Rel k u v) (hk : k + 4 ≤ 2049) : wpX_generation (fun r => wpY_generation (fun r' => r' = r ∧ i_Rel (k + 4) u v) v) u := by
  have R := i_up I
  obtain ⟨g, l, r, q, s1, s2, rfl, rfl, hg, hl, hr, hq⟩ := I
  unfold wpX_generation wpY_generation
  exact ⟨rfl, R⟩
theorem i_vc_child {k : Nat} {u : SX} {v : SY} (I : i_Rel k u v) (hk : k + 4 ≤ 2049) (v1 : Int32) (v2 : Int32) : wpX_child (fun r => wpY_child (fun r' => r' = r ∧ i_Rel (k + 4) u v) v v1 v2) u v1 v2 := by
  have R := i_up I
  obtain ⟨g, l, r, q, s1, s2, rfl, rfl, hg, hl, hr, hq⟩ := I
  unfold wpX_child wpY_child
  by_cases c1 : v1 < 1
  · exact br_t c1 (br_t c1 ⟨rfl, R⟩)
  by_cases c7 : v1 ≤ 7
  case neg => exact br_f c1 (br_f c7 (br_f c1 (br_f c7 ⟨rfl, R⟩)))
  obtain ⟨t, ht1, ht7, rfl⟩ := oc_17 c1 c7
  have it : vp_in (nI t) 8 := vp_in_nI (by omega) (by decide)
  by_cases e : v2 = 0
  · exact br_f c1 (br_t c7 (br_t e (And.intro it (br_f c1 (br_t c7 (br_t e (And.intro it ⟨rfl, R⟩)))))))
  · exact br_f c1 (br_t c7 (br_f e (And.intro it (br_f c1 (br_t c7 (br_f e (And.intro it ⟨rfl, R⟩)))))))
end
