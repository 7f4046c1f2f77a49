/-! SEM: the small words in which the walked methods are told: guards, reads, names, joins, loops; a world of numbered rows of ints and longs -/
abbrev Wd : Type := (Nat → Nat) × (Nat → Nat → Int32) × (Nat → Nat → Int64)
def inb (i : Int32) (n : Nat) : Bool := !decide (i < 0) && decide (i.toNatClampNeg < n)
theorem inb_in {i : Int32} {n : Nat} (h : inb i n = true) : vp_in i n := by
  simp [inb] at h
  unfold vp_in
  intro q
  rcases q with q | q
  · exact absurd q (by simpa using h.1)
  · omega
def gd {ρ : Type} (b : Bool) (k : Option ρ) : Option ρ := if b = true then k else none
theorem gd_e {ρ : Type} {b : Bool} {k : Option ρ} {r : ρ} (h : gd b k = some r) : b = true ∧ k = some r := by
  unfold gd at h
  split at h
  · exact ⟨by assumption, h⟩
  · cases h
def rd {α ρ : Type} (b : Bool) (v : α) (k : α → Option ρ) : Option ρ := if b = true then k v else none
theorem rd_e {α ρ : Type} {b : Bool} {v : α} {k : α → Option ρ} {r : ρ} (h : rd b v k = some r) : b = true ∧ k v = some r := by
  unfold rd at h
  split at h
  · exact ⟨by assumption, h⟩
  · cases h
def nm {α ρ : Type} (v : α) (k : α → Option ρ) : Option ρ := k v
def jn {τ ρ : Type} (J : τ) (k : τ → Option ρ) : Option ρ := k J
def bd {α ρ : Type} (o : Option α) (k : α → Option ρ) : Option ρ := match o with
  | none => none
  | some a => k a
theorem bd_e {α ρ : Type} {o : Option α} {k : α → Option ρ} {r : ρ} (h : bd o k = some r) : ∃ a, o = some a ∧ k a = some r := by
  cases o with
  | none => cases h
  | some a => exact ⟨a, rfl, h⟩
def bd2 {α β ρ : Type} (o : Option (α × β)) (k : α → β → Option ρ) : Option ρ := match o with
  | none => none
  | some q => k q.1 q.2
theorem bd2_e {α β ρ : Type} {o : Option (α × β)} {k : α → β → Option ρ} {r : ρ} (h : bd2 o k = some r) : ∃ a b, o = some (a, b) ∧ k a b = some r := by
  cases o with
  | none => cases h
  | some q => exact ⟨q.1, q.2, rfl, h⟩
def fx {τ : Type} (bot : τ) (F : τ → τ) : Nat → τ
  | 0 => bot
  | n + 1 => F (fx bot F n)
def FU : Nat := 100000
def stG (w : Wd) (a j : Nat) (v : Int32) : Wd := (w.1, fun b => if b = a then upd (w.2.1 a) j v else w.2.1 b, w.2.2)
def stL (w : Wd) (a j : Nat) (v : Int64) : Wd := (w.1, w.2.1, fun b => if b = a then vp_updL (w.2.2 a) j v else w.2.2 b)
def isB (x : Int32) : Bool := decide (x = 0) || decide (x = 1)
theorem isB_n {x : Int32} (h : isB x = true) : narrow .boolean (.int x) = .int x ∧ fits .boolean (.int x) = true := by
  simp [isB] at h
  rcases h with rfl | rfl <;> exact ⟨rfl, rfl⟩
def n8 (x : Int32) : Int32 := vp_nar .byte x
theorem fx1 {α ρ : Type} {res : ρ} {C : α → Prop} {F : (α → Option ρ) → α → Option ρ} (h : ∀ self : α → Option ρ, (∀ a, self a = some res → C a) → ∀ a, F self a = some res → C a) : ∀ (n : Nat) (a : α), fx (fun _ => none) F n a = some res → C a
  | 0, _, ho => by cases ho
  | n + 1, a, ho => h _ (fx1 h n) a ho
theorem fx2 {α β ρ : Type} {res : ρ} {C : α → β → Prop} {F : (α → β → Option ρ) → α → β → Option ρ} (h : ∀ self : α → β → Option ρ, (∀ a b, self a b = some res → C a b) → ∀ a b, F self a b = some res → C a b) : ∀ (n : Nat) (a : α) (b : β), fx (fun _ _ => none) F n a b = some res → C a b
  | 0, _, _, ho => by cases ho
  | n + 1, a, b, ho => h _ (fx2 h n) a b ho
theorem fx3 {α β γ ρ : Type} {res : ρ} {C : α → β → γ → Prop} {F : (α → β → γ → Option ρ) → α → β → γ → Option ρ} (h : ∀ self : α → β → γ → Option ρ, (∀ a b c, self a b c = some res → C a b c) → ∀ a b c, F self a b c = some res → C a b c) : ∀ (n : Nat) (a : α) (b : β) (c : γ), fx (fun _ _ _ => none) F n a b c = some res → C a b c
  | 0, _, _, _, ho => by cases ho
  | n + 1, a, b, c, ho => h _ (fx3 h n) a b c ho
theorem fx4 {α β γ δ ρ : Type} {res : ρ} {C : α → β → γ → δ → Prop} {F : (α → β → γ → δ → Option ρ) → α → β → γ → δ → Option ρ} (h : ∀ self : α → β → γ → δ → Option ρ, (∀ a b c d, self a b c d = some res → C a b c d) → ∀ a b c d, F self a b c d = some res → C a b c d) : ∀ (n : Nat) (a : α) (b : β) (c : γ) (d : δ), fx (fun _ _ _ _ => none) F n a b c d = some res → C a b c d
  | 0, _, _, _, _, ho => by cases ho
  | n + 1, a, b, c, d, ho => h _ (fx4 h n) a b c d ho
theorem fx5 {α β γ δ ε ρ : Type} {res : ρ} {C : α → β → γ → δ → ε → Prop} {F : (α → β → γ → δ → ε → Option ρ) → α → β → γ → δ → ε → Option ρ} (h : ∀ self : α → β → γ → δ → ε → Option ρ, (∀ a b c d e, self a b c d e = some res → C a b c d e) → ∀ a b c d e, F self a b c d e = some res → C a b c d e) : ∀ (n : Nat) (a : α) (b : β) (c : γ) (d : δ) (e : ε), fx (fun _ _ _ _ _ => none) F n a b c d e = some res → C a b c d e
  | 0, _, _, _, _, _, ho => by cases ho
  | n + 1, a, b, c, d, e, ho => h _ (fx5 h n) a b c d e ho
theorem jn0 {ρ : Type} {res : ρ} {C P : Prop} {J : Option ρ} {k : Option ρ → Option ρ} (h : jn J k = some res) (hJ : J = some res → C) (kk : ∀ J' : Option ρ, (J' = some res → C) → k J' = some res → P) : P := kk J hJ h
theorem jn1 {α ρ : Type} {res : ρ} {C : α → Prop} {P : Prop} {J : α → Option ρ} {k : (α → Option ρ) → Option ρ} (h : jn J k = some res) (hJ : ∀ a, J a = some res → C a) (kk : ∀ J' : α → Option ρ, (∀ a, J' a = some res → C a) → k J' = some res → P) : P := kk J hJ h
theorem jn2 {α β ρ : Type} {res : ρ} {C : α → β → Prop} {P : Prop} {J : α → β → Option ρ} {k : (α → β → Option ρ) → Option ρ} (h : jn J k = some res) (hJ : ∀ a b, J a b = some res → C a b) (kk : ∀ J' : α → β → Option ρ, (∀ a b, J' a b = some res → C a b) → k J' = some res → P) : P := kk J hJ h
theorem jn3 {α β γ ρ : Type} {res : ρ} {C : α → β → γ → Prop} {P : Prop} {J : α → β → γ → Option ρ} {k : (α → β → γ → Option ρ) → Option ρ} (h : jn J k = some res) (hJ : ∀ a b c, J a b c = some res → C a b c) (kk : ∀ J' : α → β → γ → Option ρ, (∀ a b c, J' a b c = some res → C a b c) → k J' = some res → P) : P := kk J hJ h
theorem jn4 {α β γ δ ρ : Type} {res : ρ} {C : α → β → γ → δ → Prop} {P : Prop} {J : α → β → γ → δ → Option ρ} {k : (α → β → γ → δ → Option ρ) → Option ρ} (h : jn J k = some res) (hJ : ∀ a b c d, J a b c d = some res → C a b c d) (kk : ∀ J' : α → β → γ → δ → Option ρ, (∀ a b c d, J' a b c d = some res → C a b c d) → k J' = some res → P) : P := kk J hJ h
