section
theorem pk_us {f : Nat → Int32} {k : Nat} {x : Int32} : upd f k x k = x := if_pos rfl
theorem pk_un {f : Nat → Int32} {k j : Nat} {x : Int32} (h : j ≠ k) : upd f k x j = f j := if_neg h
theorem pk_le {x y : Int32} {A B : Prop} (a b : Nat) (f : a ≤ b → A) (g : b < a → B) (hx : x = nI a := by rfl) (hy : y = nI b := by rfl) (ha : a < 2 ^ 31 := by omega) (hb : b < 2 ^ 31 := by omega) : (x ≤ y → A) ∧ (¬ x ≤ y → B) := by
  subst hx hy
  rw [nI_leI ha hb]
  exact ⟨f, fun z => g (by omega)⟩
theorem pk_lt {x y : Int32} {A B : Prop} (a b : Nat) (f : a < b → A) (g : b ≤ a → B) (hx : x = nI a := by rfl) (hy : y = nI b := by rfl) (ha : a < 2 ^ 31 := by omega) (hb : b < 2 ^ 31 := by omega) : (x < y → A) ∧ (¬ x < y → B) := by
  subst hx hy
  rw [nI_ltI ha hb]
  exact ⟨f, fun z => g (by omega)⟩
theorem pk_eq {x y : Int32} {A B : Prop} (a b : Nat) (f : a = b → A) (g : a ≠ b → B) (hx : x = nI a := by rfl) (hy : y = nI b := by rfl) (ha : a < 2 ^ 31 := by omega) (hb : b < 2 ^ 31 := by omega) : (x = y → A) ∧ (¬ x = y → B) := by
  subst hx hy
  rw [nI_eq ha hb]
  exact ⟨f, g⟩
theorem pk_in {x : Int32} (n N : Nat) (h : n < N) (hx : x = nI n := by rfl) (hN : N < 2 ^ 31 := by omega) : vp_in x N := by
  subst hx
  exact vp_in_nI h hN
/-- an owner as the component keeps it: the reference's number less one (0, free, is -1) -/
def ff_x (m : Nat) : Int32 := nI m - 1
theorem ff_x0 : ff_x 0 = -1 := by decide +kernel
theorem ff_xs (m : Nat) : ff_x (m + 1) = nI m := nI_pred m
theorem ff_m1 {p : Nat} (h : p < 2 ^ 31) : ¬ nI p = -1 := by
  intro e
  have t := congrArg Int32.toInt e
  rw [nI_toInt h, show (-1 : Int32).toInt = -1 from by decide] at t
  omega
theorem ff_x_m1 {m : Nat} (h : m < 2 ^ 31) : ff_x m = -1 ↔ m = 0 := by
  cases m with
  | zero => exact ⟨fun _ => rfl, fun _ => ff_x0⟩
  | succ m =>
    rw [ff_xs]
    exact ⟨fun e => absurd e (ff_m1 (by omega)), fun e => absurd e (by omega)⟩
theorem ff_x_p {m p : Nat} (hm : m < 2 ^ 31) (hp : p < 2 ^ 31) : ff_x m = nI p ↔ m = p + 1 := by
  cases m with
  | zero =>
    rw [ff_x0]
    exact ⟨fun e => absurd e.symm (ff_m1 hp), fun e => absurd e (by omega)⟩
  | succ m =>
    rw [ff_xs, nI_eq (by omega) hp]
    omega
theorem ff_n0 {m : Nat} (h : m < 2 ^ 31) : nI m = 0 ↔ m = 0 := by
  rw [← nI_0]
  exact nI_eq h (by decide)
theorem ff_ar (a b : Int32) : (a + b) - (b + 1) + 1 = a := by grind
theorem ff_start {i r : Nat} (h : r ≤ i) : nI i - nI (r + 1) + 1 = nI (i - r) := by
  have e : nI i = nI (i - r) + nI r := by
    rw [nI_add]
    exact congrArg nI (by omega)
  rw [e, ← nI_1 r]
  exact ff_ar _ _
/-- one abstract heap for both: o i is 0 for a free cell, else the first address of its block plus one; cells agree where they are owned -/
def ff_G (c : Nat) (o : Nat → Nat) (ox cx cy oy : Nat → Int32) : Prop :=
  c ≤ 48 ∧ ∀ i, i < c → o i ≤ i + 1 ∧ ox i = ff_x (o i) ∧ oy i = nI (o i) ∧ (o i ≠ 0 → cx i = cy i)
def i_Rel (_ : Nat) (u : SX) (v : SY) : Prop :=
  ∃ (c : Nat) (o : Nat → Nat) (ox cx cy oy : Nat → Int32), u = (nI c, ox, cx) ∧ v = (nI c, cy, oy) ∧ ff_G c o ox cx cy oy
theorem i_up {k : Nat} {u : SX} {v : SY} (h : i_Rel k u v) : i_Rel (k + 3) u v := h
theorem ff_init {post : SX → Prop} {f : Int32} (h : ∀ a b : Nat → Int32, (∀ k, k < 48 → a k = -1) → post (f, a, b)) :
    ∀ (n i : Nat) (a b : Nat → Int32), i ≤ 48 → 48 < n + i → (∀ k, k < i → a k = -1) → wX_init_44 post f n (nI i) a b := by
  intro n
  induction n with
  | zero => intro i a b hi hn; omega
  | succ n ih =>
    intro i a b hi hn ha
    refine pk_le 48 i (fun z => h a b (fun k hk => ha k (by omega))) (fun z => ?_)
    refine ⟨pk_in i 48 z, nm_e ⟨pk_in i 48 z, nm_e (nm_r (nI_1 i) (ih (i + 1) _ _ (by omega) (by omega) ?_))⟩⟩
    intro k hk
    rw [nI_clamp (by omega)]
    by_cases e : k = i
    · rw [e]; exact pk_us
    · rw [pk_un e]; exact ha k (by omega)
theorem ff_i0 (c : Nat) (hc : c ≤ 48) (a b : Nat → Int32) (h : ∀ k, k < 48 → a k = -1) : i_Rel 1 (nI c, a, b) (nI c, fun _ => 0, fun _ => 0) :=
  ⟨c, fun _ => 0, a, b, fun _ => 0, fun _ => 0, rfl, rfl, hc, fun i hi => ⟨Nat.zero_le _, (h i (by omega)).trans ff_x0.symm, rfl, fun z => absurd rfl z⟩⟩
theorem i_vc0 (k0 : Int32) : wpX_init (fun u => wpY_init (fun v => i_Rel 1 u v) k0) k0 := by
  by_cases h0 : 0 ≤ k0
  · obtain ⟨j, hj, rfl⟩ := nI_of (x := k0) (Int32.not_lt.mpr h0)
    by_cases h8 : nI j ≤ 48
    · have hc : j ≤ 48 := (nI_leI (b := 48) hj (by decide)).mp h8
      exact br_t h0 (br_t h8 ⟨49, ff_init (fun a b hab => br_t h0 (br_t h8 (ff_i0 j hc a b hab))) 49 0 _ _ (by omega) (by omega) lt_0⟩)
    · exact br_t h0 (br_f h8 ⟨49, ff_init (fun a b hab => br_t h0 (br_f h8 (ff_i0 48 (by omega) a b hab))) 49 0 _ _ (by omega) (by omega) lt_0⟩)
  · exact br_f h0 (br_t (by decide) ⟨49, ff_init (fun a b hab => br_f h0 (ff_i0 0 (by omega) a b hab)) 49 0 _ _ (by omega) (by omega) lt_0⟩)
end
section
/-! fills: what a block's fill leaves, on either side -/
theorem ff_put {f g : Nat → Int32} {p j : Nat} {x : Int32} (h1 : p ≤ j) (h : ∀ k, f k = if p ≤ k ∧ k < j then x else g k) :
    ∀ k, upd f j x k = if p ≤ k ∧ k < j + 1 then x else g k := by
  intro k
  by_cases e : k = j
  · subst e
    rw [pk_us, if_pos ⟨h1, by omega⟩]
  · rw [pk_un e, h k]
    by_cases z : p ≤ k ∧ k < j
    · rw [if_pos z, if_pos ⟨z.1, by omega⟩]
    · rw [if_neg z, if_neg (by omega)]
theorem ff_none {g : Nat → Int32} {p : Nat} {x : Int32} : ∀ k, g k = if p ≤ k ∧ k < p then x else g k := by
  intro k
  rw [if_neg (by omega)]
theorem ff_xfill {post : Int32 → SX → Prop} {c p i e : Nat} {ox cx : Nat → Int32} (hi : i < 48) (he : e = i + 1)
    (h : ∀ a b : Nat → Int32, (∀ k, a k = if p ≤ k ∧ k < e then nI p else ox k) → (∀ k, b k = if p ≤ k ∧ k < e then 0 else cx k) → post (nI p) (nI c, a, b)) :
    ∀ (n j : Nat) (a b : Nat → Int32), p ≤ j → j ≤ e → e < n + j → (∀ k, a k = if p ≤ k ∧ k < j then nI p else ox k) → (∀ k, b k = if p ≤ k ∧ k < j then 0 else cx k) → wX_alloc_56 post (nI i) (nI p) (nI c) n (nI j) a b := by
  intro n
  induction n with
  | zero => intro j a b h1 h2 h3; omega
  | succ n ih =>
    intro j a b h1 h2 h3 ha hb
    refine pk_lt i j (fun z => ?_) (fun z => ?_)
    · have t : j = e := by omega
      subst t
      exact h a b ha hb
    · refine ⟨pk_in j 48 (by omega), nm_e ⟨pk_in j 48 (by omega), nm_e (nm_r (nI_1 j) (ih (j + 1) _ _ (by omega) (by omega) (by omega) ?_ ?_))⟩⟩
      · rw [nI_clamp (by omega)]; exact ff_put h1 ha
      · rw [nI_clamp (by omega)]; exact ff_put h1 hb
theorem ff_yfill {post : Int32 → SY → Prop} {c p s : Nat} {cy oy : Nat → Int32} (hs : p + s ≤ 48)
    (h : ∀ a b : Nat → Int32, (∀ k, a k = if p ≤ k ∧ k < p + s then nI (p + 1) else oy k) → (∀ k, b k = if p ≤ k ∧ k < p + s then 0 else cy k) → post (nI p) (nI c, b, a)) :
    ∀ (n j : Nat) (a b : Nat → Int32), p ≤ j → j ≤ p + s → p + s < n + j → (∀ k, a k = if p ≤ k ∧ k < j then nI (p + 1) else oy k) → (∀ k, b k = if p ≤ k ∧ k < j then 0 else cy k) → wY_alloc_65 post (nI s) (nI p) (nI c) n (nI j) b a := by
  intro n
  induction n with
  | zero => intro j a b h1 h2 h3; omega
  | succ n ih =>
    intro j a b h1 h2 h3 ha hb
    refine pk_le (p + s) j (fun z => ?_) (fun z => ?_) (hx := nI_add p s)
    · have t : j = p + s := by omega
      subst t
      exact h a b ha hb
    · refine ⟨pk_in j 48 (by omega), nm_e ⟨pk_in j 48 (by omega), nm_e (nm_r (nI_1 j) (ih (j + 1) _ _ (by omega) (by omega) (by omega) ?_ ?_))⟩⟩
      · rw [nI_clamp (by omega), nI_1 p]; exact ff_put h1 ha
      · rw [nI_clamp (by omega)]; exact ff_put h1 hb
/-! the search: p is good if the s cells from p on are there and free -/
def ff_Gd (o : Nat → Nat) (c s p : Nat) : Prop := p + s ≤ c ∧ ∀ j, p ≤ j → j < p + s → o j = 0
theorem ff_x19 {post : Int32 → SX → Prop} {c s : Nat} {o : Nat → Nat} {ox cx : Nat → Int32} (hc : c ≤ 48)
    (ho : ∀ k, k < c → o k ≤ k + 1) (hx : ∀ k, k < c → ox k = ff_x (o k))
    (hno : (∀ q, ¬ ff_Gd o c s q) → post (-1) (nI c, ox, cx))
    (hyes : ∀ p, ff_Gd o c s p → (∀ q, q < p → ¬ ff_Gd o c s q) → ∀ a b : Nat → Int32, (∀ k, a k = if p ≤ k ∧ k < p + s then nI p else ox k) → (∀ k, b k = if p ≤ k ∧ k < p + s then 0 else cx k) → post (nI p) (nI c, a, b))
    (hsc : s ≤ c) :
    ∀ n r i : Nat, r < s → r ≤ i → i ≤ c → c < n + i → (∀ j, i ≤ j + r → j < i → o j = 0) → (∀ q, q + r < i → ¬ ff_Gd o c s q) → wX_alloc_19 post (nI s) (nI c) ox cx n (nI r) (nI i) := by
  intro n
  induction n with
  | zero => intro r i h1 h2 h3 h4; omega
  | succ n ih =>
    intro r i h1 h2 h3 h4 hf hg
    refine pk_le c i (fun z => hno (fun q hq => ?_)) (fun z => ?_)
    · by_cases e : q + r < i
      · exact hg q e hq
      · have t := hq.1
        omega
    · have ei : (nI i).toNatClampNeg = i := nI_clamp (by omega)
      have hb : o i < 2 ^ 31 := by
        have t := ho i z
        omega
      refine ⟨pk_in i 48 (by omega), ?_⟩
      by_cases e : o i = 0
      · refine br_t (by rw [ei, hx i z, e]; exact ff_x0) (nm_r (nI_1 r) ?_)
        have hf' : ∀ j, i ≤ j + r → j < i + 1 → o j = 0 := by
          intro j a b
          by_cases t : j = i
          · rw [t]; exact e
          · exact hf j a (by omega)
        refine pk_eq (r + 1) s (fun w => ?_) (fun w => ?_)
        · have hp : i - r + s = i + 1 := by omega
          have g : ff_Gd o c s (i - r) := ⟨by omega, fun j a b => hf' j (by omega) (by omega)⟩
          refine nm_r (e' := nI (i - r)) (by rw [← w]; exact ff_start h2) ⟨s + 1, ?_⟩
          exact ff_xfill (by omega) hp (fun a b ha hb => hyes (i - r) g (fun q hq => hg q (by omega)) a b ha hb) (s + 1) (i - r) ox cx (by omega) (by omega) (by omega) ff_none ff_none
        · exact nm_r (nI_1 i) (ih (r + 1) (i + 1) (by omega) (by omega) (by omega) (by omega) (fun j a b => hf' j (by omega) b) (fun q a => hg q (by omega)))
      · refine br_f (by rw [ei, hx i z]; exact fun t => e ((ff_x_m1 hb).mp t)) (nm_r (nI_1 i) ?_)
        refine ih 0 (i + 1) (by omega) (by omega) (by omega) (by omega) (fun j a b => by omega) (fun q a gq => ?_)
        by_cases t : q + r < i
        · exact hg q t gq
        · exact e (gq.2 i (by omega) (by omega))
theorem ff_y32 {post : Int32 → SY → Prop} {J : Int32 → Prop} {c s p : Nat} {o : Nat → Nat} {cy oy : Nat → Int32} (hc : c ≤ 48) (hps : p + s ≤ c)
    (ho : ∀ k, k < c → o k ≤ k + 1) (hy : ∀ k, k < c → oy k = nI (o k))
    (hno : ¬ ff_Gd o c s p → J (nI (p + 1)))
    (hyes : ff_Gd o c s p → ∃ m : Nat, wY_alloc_65 post (nI s) (nI p) (nI c) m (nI p) cy oy) :
    ∀ (n j : Nat) (x : Int32), p ≤ j → j ≤ p + s → p + s < n + j → ((x = 0 ∧ ¬ ff_Gd o c s p) ∨ (x = 1 ∧ ∀ k, p ≤ k → k < j → o k = 0)) → wY_alloc_32 post J (nI s) (nI p) (nI c) cy oy n x (nI j) := by
  intro n
  induction n with
  | zero => intro j x h1 h2 h3; omega
  | succ n ih =>
    intro j x h1 h2 h3 hI
    refine pk_le (p + s) j (fun z => ?_) (fun z => ?_) (hx := nI_add p s)
    · rcases hI with ⟨rfl, g⟩ | ⟨rfl, g⟩
      · exact br_t rfl (nm_r (nI_1 p) (hno g))
      · exact br_f (by decide) (hyes ⟨hps, fun k a b => g k a (by omega)⟩)
    · have ej : (nI j).toNatClampNeg = j := nI_clamp (by omega)
      have hj : j < c := by omega
      have hb : o j < 2 ^ 31 := by
        have t := ho j hj
        omega
      refine ⟨pk_in j 48 (by omega), ?_⟩
      by_cases e : o j = 0
      · refine br_t (by rw [ej, hy j hj, e]; exact nI_0) (nm_r (nI_1 j) (ih (j + 1) x (by omega) (by omega) (by omega) ?_))
        rcases hI with g | ⟨g1, g2⟩
        · exact Or.inl g
        · refine Or.inr ⟨g1, fun k a b => ?_⟩
          by_cases t : k = j
          · rw [t]; exact e
          · exact g2 k a (by omega)
      · refine br_f (by rw [ej, hy j hj]; exact fun t => e ((ff_n0 hb).mp t)) (nm_r (nI_1 j) (ih (j + 1) 0 (by omega) (by omega) (by omega) (Or.inl ⟨rfl, fun g => e (g.2 j h1 z)⟩)))
theorem ff_y17 {post : Int32 → SY → Prop} {c s : Nat} {o : Nat → Nat} {cy oy : Nat → Int32} (hc : c ≤ 48)
    (ho : ∀ k, k < c → o k ≤ k + 1) (hy : ∀ k, k < c → oy k = nI (o k))
    (hno : (∀ q, ¬ ff_Gd o c s q) → post (-1) (nI c, cy, oy))
    (hyes : ∀ p, ff_Gd o c s p → (∀ q, q < p → ¬ ff_Gd o c s q) → ∀ a b : Nat → Int32, (∀ k, a k = if p ≤ k ∧ k < p + s then nI (p + 1) else oy k) → (∀ k, b k = if p ≤ k ∧ k < p + s then 0 else cy k) → post (nI p) (nI c, b, a))
    (hs : 1 ≤ s) (hsc : s ≤ c) :
    ∀ n p : Nat, p ≤ c → c < n + p → (∀ q, q < p → ¬ ff_Gd o c s q) → wY_alloc_17 post (nI s) (nI c) cy oy n (nI p) := by
  intro n
  induction n with
  | zero => intro p h1 h2; omega
  | succ n ih =>
    intro p h1 h2 hg
    refine pk_lt c (p + s) (fun z => hno (fun q hq => ?_)) (fun z => ⟨s + 1, ?_⟩) (hy := nI_add p s)
    · by_cases e : q < p
      · exact hg q e hq
      · have t := hq.1
        omega
    · refine ff_y32 hc z ho hy (fun g => ih (p + 1) (by omega) (by omega) (fun q a => ?_)) (fun g => ⟨s + 1, ?_⟩) (s + 1) p 1 (by omega) (by omega) (by omega) (Or.inr ⟨rfl, fun k a b => by omega⟩)
      · by_cases t : q = p
        · rw [t]; exact g
        · exact hg q (by omega)
      · exact ff_yfill (by omega) (fun a b ha hb => hyes p g hg a b ha hb) (s + 1) p oy cy (by omega) (by omega) (by omega) ff_none ff_none
/-! free: the owners' numbers once the cells below i are done -/
def ff_d (o : Nat → Nat) (p i : Nat) : Nat → Nat := fun k => if k < i ∧ o k = p + 1 then 0 else o k
theorem ff_d_ne {o : Nat → Nat} {p i k : Nat} (h : k ≠ i) : ff_d o p (i + 1) k = ff_d o p i k := by
  unfold ff_d
  by_cases z : k < i ∧ o k = p + 1
  · rw [if_pos z, if_pos ⟨by omega, z.2⟩]
  · rw [if_neg z, if_neg (fun w => z ⟨by omega, w.2⟩)]
theorem ff_d_self {o : Nat → Nat} {p i : Nat} : ff_d o p i i = o i := if_neg (by omega)
theorem ff_d_hit {o : Nat → Nat} {p i j : Nat} (h : i < j) (e : o i = p + 1) : ff_d o p j i = 0 := if_pos ⟨h, e⟩
theorem ff_d_miss {o : Nat → Nat} {p i j : Nat} (e : o i ≠ p + 1) : ff_d o p j i = o i := if_neg (fun w => e w.2)
theorem ff_d_low {o : Nat → Nat} {p i j : Nat} (e : j ≤ i) : ff_d o p j i = o i := if_neg (by omega)
theorem ff_xfree {post : Int32 → SX → Prop} {c p : Nat} {o : Nat → Nat} {cx : Nat → Int32} (hc : c ≤ 48) (hp : p < c)
    (ho : ∀ k, k < c → o k ≤ k + 1)
    (h : ∀ a b : Nat → Int32, (∀ k, k < c → a k = ff_x (ff_d o p c k)) → (∀ k, k < c → o k ≠ p + 1 → b k = cx k) → post 0 (nI c, a, b)) :
    ∀ (n i : Nat) (a b : Nat → Int32), i ≤ c → c < n + i → (∀ k, k < c → a k = ff_x (ff_d o p i k)) → (∀ k, k < c → o k ≠ p + 1 → b k = cx k) → wX_free_28 post (nI p) (nI c) n (nI i) a b := by
  intro n
  induction n with
  | zero => intro i a b h1 h2; omega
  | succ n ih =>
    intro i a b h1 h2 ha hb
    refine pk_le c i (fun z => ?_) (fun z => ?_)
    · have t : i = c := by omega
      subst t
      exact h a b ha hb
    · have ei : (nI i).toNatClampNeg = i := nI_clamp (by omega)
      have hv : a i = ff_x (o i) := by rw [ha i z, ff_d_self]
      have hl : o i < 2 ^ 31 := by
        have t := ho i z
        omega
      refine ⟨pk_in i 48 (by omega), ?_⟩
      by_cases e : o i = p + 1
      · refine br_t (by rw [ei, hv]; exact (ff_x_p hl (by omega)).mpr e) ⟨pk_in i 48 (by omega), nm_e ⟨pk_in i 48 (by omega), nm_e (nm_r (nI_1 i) (ih (i + 1) _ _ (by omega) (by omega) ?_ ?_))⟩⟩
        · intro k hk
          rw [ei]
          by_cases t : k = i
          · subst t
            rw [pk_us, ff_d_hit (by omega) e, ff_x0]
          · rw [pk_un t, ff_d_ne t]
            exact ha k hk
        · intro k hk w
          rw [ei]
          by_cases t : k = i
          · exact absurd (t ▸ e) w
          · rw [pk_un t]
            exact hb k hk w
      · refine br_f (by rw [ei, hv]; exact fun t => e ((ff_x_p hl (by omega)).mp t)) (nm_r (nI_1 i) (ih (i + 1) a b (by omega) (by omega) ?_ hb))
        intro k hk
        by_cases t : k = i
        · subst t
          rw [hv, ff_d_miss e]
        · rw [ff_d_ne t]
          exact ha k hk
theorem ff_yfree {post : Int32 → SY → Prop} {c p : Nat} {o : Nat → Nat} {cy : Nat → Int32} (hc : c ≤ 48) (hp : p < c)
    (ho : ∀ k, k < c → o k ≤ k + 1)
    (h : ∀ a : Nat → Int32, (∀ k, k < c → a k = nI (ff_d o p c k)) → post 0 (nI c, cy, a)) :
    ∀ (n i : Nat) (a : Nat → Int32), i ≤ c → c < n + i → (∀ k, k < c → a k = nI (ff_d o p i k)) → wY_free_30 post (nI p) (nI c) n (nI i) cy a := by
  intro n
  induction n with
  | zero => intro i a h1 h2; omega
  | succ n ih =>
    intro i a h1 h2 ha
    refine pk_le c i (fun z => ?_) (fun z => ?_)
    · have t : i = c := by omega
      subst t
      exact h a ha
    · have ei : (nI i).toNatClampNeg = i := nI_clamp (by omega)
      have hv : a i = nI (o i) := by rw [ha i z, ff_d_self]
      have hl : o i < 2 ^ 31 := by
        have t := ho i z
        omega
      refine ⟨pk_in i 48 (by omega), ?_⟩
      by_cases e : o i = p + 1
      · refine br_t (by rw [ei, hv, nI_1 p, e]) ⟨pk_in i 48 (by omega), nm_e (nm_r (nI_1 i) (ih (i + 1) _ (by omega) (by omega) ?_))⟩
        intro k hk
        rw [ei]
        by_cases t : k = i
        · subst t
          rw [pk_us, ff_d_hit (by omega) e, nI_0]
        · rw [pk_un t, ff_d_ne t]
          exact ha k hk
      · refine br_f (by rw [ei, hv, nI_1 p]; exact fun t => e ((nI_eq hl (by omega)).mp t)) (nm_r (nI_1 i) (ih (i + 1) a (by omega) (by omega) ?_))
        intro k hk
        by_cases t : k = i
        · subst t
          rw [hv, ff_d_miss e]
        · rw [ff_d_ne t]
          exact ha k hk
end
section
theorem i_vc_alloc {k : Nat} {u : SX} {v : SY} (I : i_Rel k u v) (hk : k + 3 ≤ 1537) (v1 : Int32) : wpX_alloc (fun r u' => wpY_alloc (fun r' v' => r' = r ∧ i_Rel (k + 3) u' v') v v1) u v1 := by
  have hR := i_up I
  obtain ⟨c, o, ox, cx, cy, oy, rfl, rfl, hc, hG⟩ := I
  by_cases h1 : v1 < 1
  · exact br_t h1 (br_t h1 ⟨rfl, hR⟩)
  · have h0 : ¬ v1 < 0 := fun z => h1 (Int32.lt_trans z (by decide))
    obtain ⟨s, hs, rfl⟩ := nI_of h0
    by_cases h2 : nI s ≤ nI c
    · have hs1 : 1 ≤ s := Nat.not_lt.mp (fun z => h1 (nI_lt (b := 1) z (by decide)))
      have hsc : s ≤ c := (nI_leI hs (by omega)).mp h2
      have ho : ∀ k, k < c → o k ≤ k + 1 := fun k hk => (hG k hk).1
      have hx : ∀ k, k < c → ox k = ff_x (o k) := fun k hk => (hG k hk).2.1
      have hy : ∀ k, k < c → oy k = nI (o k) := fun k hk => (hG k hk).2.2.1
      refine br_f h1 (br_t h2 ⟨c + 1, ff_x19 hc ho hx (fun g => ?_) (fun p gp gl a b ha hb => ?_) hsc (c + 1) 0 0 (by omega) (by omega) (by omega) (by omega) (fun j _ z => by omega) (fun q z => by omega)⟩)
      · exact br_f h1 (br_t h2 ⟨c + 1, ff_y17 hc ho hy (fun _ => ⟨rfl, hR⟩) (fun p gp _ _ _ _ _ => absurd gp (g p)) hs1 hsc (c + 1) 0 (by omega) (by omega) (fun q z => by omega)⟩)
      · refine br_f h1 (br_t h2 ⟨c + 1, ff_y17 hc ho hy (fun g => absurd gp (g p)) (fun p' gp' gl' a' b' ha' hb' => ?_) hs1 hsc (c + 1) 0 (by omega) (by omega) (fun q z => by omega)⟩)
        have e : p' = p := by
          rcases Nat.lt_trichotomy p' p with z | z | z
          · exact absurd gp' (gl p' z)
          · exact z
          · exact absurd gp (gl' p z)
        subst e
        refine ⟨rfl, c, fun k => if p' ≤ k ∧ k < p' + s then p' + 1 else o k, a, b, b', a', rfl, rfl, hc, fun i hi => ?_⟩
        obtain ⟨g1, g2, g3, g4⟩ := hG i hi
        rw [ha i, hb i, ha' i, hb' i]
        dsimp only
        by_cases z : p' ≤ i ∧ i < p' + s
        · rw [if_pos z, if_pos z, if_pos z, if_pos z, if_pos z]
          exact ⟨by omega, (ff_xs p').symm, rfl, fun _ => rfl⟩
        · rw [if_neg z, if_neg z, if_neg z, if_neg z, if_neg z]
          exact ⟨g1, g2, g3, g4⟩
    · exact br_f h1 (br_f h2 (br_f h1 (br_f h2 ⟨rfl, hR⟩)))
theorem i_vc_free {k : Nat} {u : SX} {v : SY} (I : i_Rel k u v) (hk : k + 3 ≤ 1537) (v1 : Int32) : wpX_free (fun r u' => wpY_free (fun r' v' => r' = r ∧ i_Rel (k + 3) u' v') v v1) u v1 := by
  have hR := i_up I
  obtain ⟨c, o, ox, cx, cy, oy, rfl, rfl, hc, hG⟩ := I
  by_cases h0 : v1 < 0
  · exact br_t h0 (br_t h0 ⟨rfl, hR⟩)
  · obtain ⟨p, hp, rfl⟩ := nI_of h0
    by_cases h2 : nI p < nI c
    · have hpc : p < c := (nI_ltI hp (by omega)).mp h2
      have ho : ∀ k, k < c → o k ≤ k + 1 := fun k hk => (hG k hk).1
      have ep : (nI p).toNatClampNeg = p := nI_clamp hp
      have hi : vp_in (nI p) 48 := vp_in_nI (by omega) (by decide)
      obtain ⟨g1, g2, g3, g4⟩ := hG p hpc
      have hl : o p < 2 ^ 31 := by omega
      by_cases e : o p = p + 1
      · have eX : ox (nI p).toNatClampNeg = nI p := by
          rw [ep, g2]
          exact (ff_x_p hl hp).mpr e
        have eY : oy (nI p).toNatClampNeg = nI p + 1 := by
          rw [ep, g3, nI_1, e]
        refine br_f h0 (br_t h2 ⟨hi, br_t eX ⟨c + 1, ff_xfree (o := o) (cx := cx) hc hpc ho (fun a b ha hb => ?_) (c + 1) p ox cx (by omega) (by omega) (fun k hk => ?_) (fun _ _ _ => rfl)⟩⟩)
        · refine br_f h0 (br_t h2 ⟨hi, br_t eY ⟨c + 1, ff_yfree (o := o) hc hpc ho (fun a' ha' => ?_) (c + 1) 0 oy (by omega) (by omega) (fun k hk => ?_)⟩⟩)
          · refine ⟨rfl, c, ff_d o p c, a, b, cy, a', rfl, rfl, hc, fun i hi => ?_⟩
            obtain ⟨q1, q2, q3, q4⟩ := hG i hi
            by_cases z : o i = p + 1
            · have t : ff_d o p c i = 0 := ff_d_hit hi z
              exact ⟨by omega, ha i hi, ha' i hi, fun w => absurd t w⟩
            · have t : ff_d o p c i = o i := ff_d_miss z
              exact ⟨by omega, ha i hi, ha' i hi, fun w => (hb i hi z).trans (q4 (by omega))⟩
          · rw [ff_d_low (by omega)]
            exact (hG k hk).2.2.1
        · have t : ff_d o p p k = o k := if_neg (fun w => by have := ho k hk; omega)
          rw [t]
          exact (hG k hk).2.1
      · have nX : ¬ ox (nI p).toNatClampNeg = nI p := by
          rw [ep, g2]
          exact fun t => e ((ff_x_p hl hp).mp t)
        have nY : ¬ oy (nI p).toNatClampNeg = nI p + 1 := by
          rw [ep, g3, nI_1]
          exact fun t => e ((nI_eq hl (by omega)).mp t)
        exact br_f h0 (br_t h2 ⟨hi, br_f nX (br_f h0 (br_t h2 ⟨hi, br_f nY ⟨rfl, hR⟩⟩))⟩)
    · exact br_f h0 (br_f h2 (br_f h0 (br_f h2 ⟨rfl, hR⟩)))
theorem i_vc_write {k : Nat} {u : SX} {v : SY} (I : i_Rel k u v) (hk : k + 3 ≤ 1537) (v1 : Int32) (v2 : Int32) : wpX_write (fun r u' => wpY_write (fun r' v' => r' = r ∧ i_Rel (k + 3) u' v') v v1 v2) u v1 v2 := by
  have hR := i_up I
  obtain ⟨c, o, ox, cx, cy, oy, rfl, rfl, hc, hG⟩ := I
  by_cases h0 : v1 < 0
  · exact br_t h0 (br_t h0 ⟨rfl, hR⟩)
  · obtain ⟨p, hp, rfl⟩ := nI_of h0
    by_cases h2 : nI p < nI c
    · have hpc : p < c := (nI_ltI hp (by omega)).mp h2
      have ep : (nI p).toNatClampNeg = p := nI_clamp hp
      have hi : vp_in (nI p) 48 := vp_in_nI (by omega) (by decide)
      obtain ⟨g1, g2, g3, g4⟩ := hG p hpc
      have hl : o p < 2 ^ 31 := by omega
      by_cases e : o p = 0
      · have eX : ox (nI p).toNatClampNeg = -1 := by
          rw [ep, g2]
          exact (ff_x_m1 hl).mpr e
        have eY : oy (nI p).toNatClampNeg = 0 := by
          rw [ep, g3]
          exact (ff_n0 hl).mpr e
        exact br_f h0 (br_t h2 ⟨hi, br_t eX (br_f h0 (br_t h2 ⟨hi, br_t eY ⟨rfl, hR⟩⟩))⟩)
      · have nX : ¬ ox (nI p).toNatClampNeg = -1 := by
          rw [ep, g2]
          exact fun t => e ((ff_x_m1 hl).mp t)
        have nY : ¬ oy (nI p).toNatClampNeg = 0 := by
          rw [ep, g3]
          exact fun t => e ((ff_n0 hl).mp t)
        refine br_f h0 (br_t h2 ⟨hi, br_f nX ⟨hi, nm_e (br_f h0 (br_t h2 ⟨hi, br_f nY ⟨hi, nm_e ⟨rfl, ?_⟩⟩⟩))⟩⟩)
        rw [ep]
        refine ⟨c, o, ox, upd cx p v2, upd cy p v2, oy, rfl, rfl, hc, fun i hi => ?_⟩
        obtain ⟨q1, q2, q3, q4⟩ := hG i hi
        refine ⟨q1, q2, q3, fun w => ?_⟩
        by_cases t : i = p
        · rw [t, pk_us, pk_us]
        · rw [pk_un t, pk_un t]
          exact q4 w
    · exact br_f h0 (br_f h2 (br_f h0 (br_f h2 ⟨rfl, hR⟩)))
theorem i_vc_read {k : Nat} {u : SX} {v : SY} (I : i_Rel k u v) (hk : k + 3 ≤ 1537) (v1 : Int32) : wpX_read (fun r => wpY_read (fun r' => r' = r ∧ i_Rel (k + 3) u v) v v1) u v1 := by
  have hR := i_up I
  obtain ⟨c, o, ox, cx, cy, oy, rfl, rfl, hc, hG⟩ := I
  by_cases h0 : v1 < 0
  · exact br_t h0 (br_t h0 ⟨rfl, hR⟩)
  · obtain ⟨p, hp, rfl⟩ := nI_of h0
    by_cases h2 : nI p < nI c
    · have hpc : p < c := (nI_ltI hp (by omega)).mp h2
      have ep : (nI p).toNatClampNeg = p := nI_clamp hp
      have hi : vp_in (nI p) 48 := vp_in_nI (by omega) (by decide)
      obtain ⟨g1, g2, g3, g4⟩ := hG p hpc
      have hl : o p < 2 ^ 31 := by omega
      by_cases e : o p = 0
      · have eX : ox (nI p).toNatClampNeg = -1 := by
          rw [ep, g2]
          exact (ff_x_m1 hl).mpr e
        have eY : oy (nI p).toNatClampNeg = 0 := by
          rw [ep, g3]
          exact (ff_n0 hl).mpr e
        exact br_f h0 (br_t h2 ⟨hi, br_t eX (br_f h0 (br_t h2 ⟨hi, br_t eY ⟨rfl, hR⟩⟩))⟩)
      · have nX : ¬ ox (nI p).toNatClampNeg = -1 := by
          rw [ep, g2]
          exact fun t => e ((ff_x_m1 hl).mp t)
        have nY : ¬ oy (nI p).toNatClampNeg = 0 := by
          rw [ep, g3]
          exact fun t => e ((ff_n0 hl).mp t)
        exact br_f h0 (br_t h2 ⟨hi, br_f nX ⟨hi, br_f h0 (br_t h2 ⟨hi, br_f nY ⟨hi, by rw [ep]; exact (g4 e).symm, hR⟩⟩)⟩⟩)
    · exact br_f h0 (br_f h2 (br_f h0 (br_f h2 ⟨rfl, hR⟩)))
theorem i_vc_blockOf {k : Nat} {u : SX} {v : SY} (I : i_Rel k u v) (hk : k + 3 ≤ 1537) (v1 : Int32) : wpX_blockOf (fun r => wpY_blockOf (fun r' => r' = r ∧ i_Rel (k + 3) u v) v v1) u v1 := by
  have hR := i_up I
  obtain ⟨c, o, ox, cx, cy, oy, rfl, rfl, hc, hG⟩ := I
  by_cases h0 : v1 < 0
  · exact br_t h0 (br_t h0 ⟨rfl, hR⟩)
  · obtain ⟨p, hp, rfl⟩ := nI_of h0
    by_cases h2 : nI p < nI c
    · have hpc : p < c := (nI_ltI hp (by omega)).mp h2
      have ep : (nI p).toNatClampNeg = p := nI_clamp hp
      have hi : vp_in (nI p) 48 := vp_in_nI (by omega) (by decide)
      obtain ⟨g1, g2, g3, g4⟩ := hG p hpc
      have hl : o p < 2 ^ 31 := by omega
      by_cases e : o p = 0
      · have eX : ox (nI p).toNatClampNeg = -1 := by
          rw [ep, g2]
          exact (ff_x_m1 hl).mpr e
        have eY : oy (nI p).toNatClampNeg = 0 := by
          rw [ep, g3]
          exact (ff_n0 hl).mpr e
        exact br_f h0 (br_t h2 ⟨hi, br_t eX (br_f h0 (br_t h2 ⟨hi, br_t eY ⟨rfl, hR⟩⟩))⟩)
      · have nX : ¬ ox (nI p).toNatClampNeg = -1 := by
          rw [ep, g2]
          exact fun t => e ((ff_x_m1 hl).mp t)
        have nY : ¬ oy (nI p).toNatClampNeg = 0 := by
          rw [ep, g3]
          exact fun t => e ((ff_n0 hl).mp t)
        exact br_f h0 (br_t h2 ⟨hi, br_f nX ⟨hi, br_f h0 (br_t h2 ⟨hi, br_f nY ⟨hi, by rw [ep, g2, g3]; exact rfl, hR⟩⟩)⟩⟩)
    · exact br_f h0 (br_f h2 (br_f h0 (br_f h2 ⟨rfl, hR⟩)))
end
