set_option maxRecDepth 10000
/-! THE FLAT HEAP: ints, longs, references by cell and place; kind and length of a cell; how many cells there are; how many slots were made -/
abbrev AH : Type := (Nat → Nat → Int32) × (Nat → Nat → Int64) × (Nat → Nat → Option Nat) × (Nat → Nat) × (Nat → Nat) × Nat × Nat × Nat × (Nat → Nat)
def hp_I (h : AH) : Nat → Nat → Int32 := h.1
def hp_L (h : AH) : Nat → Nat → Int64 := h.2.1
def hp_R (h : AH) : Nat → Nat → Option Nat := h.2.2.1
def hp_k (h : AH) : Nat → Nat := h.2.2.2.1
def hp_n (h : AH) : Nat → Nat := h.2.2.2.2.1
def hp_z (h : AH) : Nat := h.2.2.2.2.2.1
def hp_s (h : AH) : Nat := h.2.2.2.2.2.2.1
/-- where the room for cells ends -/
def hp_t (h : AH) : Nat := h.2.2.2.2.2.2.2.1
/-- where the constant arrays lie -/
def hp_c (h : AH) : Nat → Nat := h.2.2.2.2.2.2.2.2
def up_I (h : AH) (a i : Nat) (v : Int32) : AH := (fun x j => if x = a ∧ j = i then v else hp_I h x j, h.2)
def up_L (h : AH) (a i : Nat) (v : Int64) : AH := (h.1, fun x j => if x = a ∧ j = i then v else hp_L h x j, h.2.2)
def up_R (h : AH) (a i : Nat) (v : Option Nat) : AH := (h.1, h.2.1, fun x j => if x = a ∧ j = i then v else hp_R h x j, h.2.2.2)
def up_N (h : AH) (k n m : Nat) : AH := (fun x j => if x = hp_z h then 0 else hp_I h x j, fun x j => if x = hp_z h then 0 else hp_L h x j, fun x j => if x = hp_z h then none else hp_R h x j, fun x => if x = hp_z h then k else hp_k h x, fun x => if x = hp_z h then n else hp_n h x, hp_z h + 1, hp_s h + m, hp_t h, hp_c h)
def up_CI (h : AH) (a0 sp a dp n : Nat) : AH := (fun x j => if x = a ∧ dp ≤ j ∧ j < dp + n then hp_I h a0 (sp + (j - dp)) else hp_I h x j, h.2)
def up_CR (h : AH) (a0 sp a dp n : Nat) : AH := (h.1, h.2.1, fun x j => if x = a ∧ dp ≤ j ∧ j < dp + n then hp_R h a0 (sp + (j - dp)) else hp_R h x j, h.2.2.2)
/-- a byte's range; a truth's -/
def by8 (x : Int32) : Prop := x.toInt8.toInt32 = x
def zb (x : Int32) : Prop := x = 0 ∨ x = 1
/-- kinds and lengths stay; cells only come -/
def fx_ext (h h1 : AH) : Prop := (∀ a, hp_k h a ≠ 0 → hp_k h1 a = hp_k h a ∧ hp_n h1 a = hp_n h a) ∧ hp_z h ≤ hp_z h1 ∧ hp_t h1 = hp_t h ∧ hp_c h1 = hp_c h
theorem fx_ext.rf {h : AH} : fx_ext h h := ⟨fun _ _ => ⟨rfl, rfl⟩, Nat.le_refl _, rfl, rfl⟩
theorem fx_ext.tr {h h1 h2 : AH} (x : fx_ext h h1) (y : fx_ext h1 h2) : fx_ext h h2 := ⟨fun a ha => by
  obtain ⟨p1, p2⟩ := x.1 a ha
  obtain ⟨q1, q2⟩ := y.1 a (by rw [p1]; exact ha)
  exact ⟨q1.trans p1, q2.trans p2⟩, Nat.le_trans x.2.1 y.2.1, y.2.2.1.trans x.2.2.1, y.2.2.2.trans x.2.2.2⟩
theorem fx_ext.k {h h1 : AH} (x : fx_ext h h1) {a k : Nat} (hk : hp_k h a = k + 1) : hp_k h1 a = k + 1 := (x.1 a (by rw [hk]; exact Nat.succ_ne_zero _)).1.trans hk
theorem fx_ext.n {h h1 : AH} (x : fx_ext h h1) {a k : Nat} (hk : hp_k h a = k + 1) : hp_n h1 a = hp_n h a := (x.1 a (by rw [hk]; exact Nat.succ_ne_zero _)).2
/-- no cell beyond the last -/
def fx_wf (h : AH) : Prop := ∀ a, hp_z h ≤ a → hp_k h a = 0
/-- a loop: an invariant and a measure that falls -/
def fx_loop {S : Type} (B : (S → Prop) → S → Prop) (s : S) : Prop := ∃ (I : S → Prop) (μ : S → Nat), I s ∧ ∀ s, I s → B (fun s' => I s' ∧ μ s' < μ s) s
theorem fx_loop.use {S : Type} {B : (S → Prop) → S → Prop} {s : S} (h : fx_loop B s) (G : S → Prop) (step : ∀ (P : S → Prop) (s : S), (∀ s', P s' → G s') → B P s → G s) : G s := by
  obtain ⟨I, μ, h0, hB⟩ := h
  have key : ∀ (n : Nat) (s : S), μ s < n → I s → G s := by
    intro n
    induction n with
    | zero => intro s h; omega
    | succ n ih => intro s hn hI; exact step _ s (fun s' h' => ih s' (by omega) h'.1) (hB s hI)
  exact key _ s (Nat.lt_succ_self _) h0
/-! the machine's heap holds the flat one -/
/-- class numbers; places of fields; the state at the law's start; where the constant arrays lie -/
abbrev DD : Type := (Nat → ClassId) × (Nat → Nat → Nat) × State × (Nat → Nat)
def fx_b (D : DD) : Nat := D.2.2.1.heap.size
def fx_top (D : DD) : Nat := fx_b D + 601024
def fx_val (t : Nat) (h : AH) (a j : Nat) : Value := match t with
  | 0 => .int (hp_I h a j)
  | 1 => .long (hp_L h a j)
  | _ => va_rf (hp_R h a j)
def fx_ob (D : DD) (h : AH) (H : Heap) (a ci : Nat) : Prop := ∃ r, fx_cl[ci]? = some r ∧ t_OB a (D.1 ci) r.2.2 (D.2.1 ci) H (fun j => fx_val (fx_ft ci j) h a j)
/-- arrays: 101 byte, 102 int, 103 long, 104 Object, 105 byte arrays; those that were there before (read only): 111 byte, 112 int, 113 long, 106 Object -/
def fx_aty (k : Nat) : FieldType := match k with
  | 101 => .byte
  | 102 => .int
  | 103 => .long
  | 105 => .array .byte
  | 111 => .byte
  | 112 => .int
  | 113 => .long
  | _ => .object "java/lang/Object"
def fx_at (k : Nat) : Nat := match k with
  | 101 => 0
  | 102 => 0
  | 103 => 1
  | 111 => 0
  | 112 => 0
  | 113 => 1
  | _ => 2
def bk (k : Nat) : Prop := k = 101 ∨ k = 111
def ik (k : Nat) : Prop := k = 102 ∨ k = 112
def lk (k : Nat) : Prop := k = 103 ∨ k = 113
def ok (k : Nat) : Prop := k = 104 ∨ k = 106
def fx_comp (k : Nat) : Option String := match k with
  | 104 => some "java/lang/Object"
  | 105 => some "[B"
  | _ => none
def fx_cname (k : Nat) : Option String := match k with
  | 101 => some "[B"
  | 104 => some "[Ljava/lang/Object;"
  | _ => none
def fx_ar (D : DD) (h : AH) (H : Heap) (a k : Nat) : Prop := ∃ cell : Cell, H[a]? = some cell ∧ D.2.2.1.isArrayOf cell (fx_aty k) ∧ cell.vm ≠ .unknown ∧ (hp_n h a ≤ cell.slots.size ∧ cell.slots.size.toInt32 = nI (hp_n h a)) ∧ (∀ j, j < hp_n h a → cell.slots[j]? = some (fx_val (fx_at k) h a j)) ∧ (bk k → ∀ j, j < hp_n h a → by8 (hp_I h a j)) ∧ (∀ nm, fx_cname k = some nm → D.2.2.1.vm.findClass nm = some cell.cls) ∧
  ∀ C, fx_comp k = some C → ∃ (kA : Class) (comp : ClassId) (kC : Class), D.2.2.1.vm.classes[cell.cls]? = some kA ∧ kA.kind = .array comp (fx_aty k) ∧ D.2.2.1.vm.findClass C = some comp ∧ D.2.2.1.vm.classes[comp]? = some kC
def fx_cell (D : DD) (h : AH) (H : Heap) (a : Nat) : Prop := (∀ ci, hp_k h a = ci + 1 → ci < 100 → fx_ob D h H a ci) ∧ (100 < hp_k h a → fx_ar D h H a (hp_k h a))
def fx_rep (D : DD) (h : AH) (H : Heap) : Prop := H.size = hp_z h ∧ fx_b D ≤ hp_z h ∧ (∀ q, q < fx_b D → H[q]? = D.2.2.1.heap[q]?) ∧ (∀ a, fx_cell D h H a) ∧ (∀ a, hp_z h ≤ a → hp_k h a = 0) ∧ (∀ a, hp_k h a ≠ 0 → hp_k h a < 106 → fx_b D ≤ a) ∧ hp_t h = fx_top D ∧ hp_c h = D.2.2.2
/-- the words of the tables -/
def fx_good (w : Cond) : Bool := match w with
  | .fieldLinkNest .. => true
  | .methodLinkNest .. => true
  | .arrayClass _ => true
  | .arrayOver (.object _) => true
  | .arrayOver (.array _) => true
  | w => w.onTables && w.keepsFace
def fx_TW (U : State) : Prop := ∀ w ∈ tables_1, fx_good w = true → w.before #[] U = true
theorem fx_TW.at {U : State} (h : fx_TW U) {w : Cond} (hm : w ∈ tables_1) (hg : fx_good w = true) (ho : w.onTables = true) {A : Array Value} : w.before A U = true := va_tabs ho rfl (h w hm hg)
theorem fx_TW.arr {U : State} (h : fx_TW U) {ty : FieldType} (hm : Cond.arrayClass ty ∈ tables_1) {A : Array Value} : (Cond.arrayClass ty).before A U = true := h _ hm rfl
theorem fx_TW.ov {U : State} (h : fx_TW U) {ty : FieldType} (hm : Cond.arrayOver ty ∈ tables_1) (hg : fx_good (Cond.arrayOver ty) = true) {A : Array Value} : (Cond.arrayOver ty).before A U = true := h _ hm hg
theorem fx_TW.warm {s U : State} (h : fx_TW s) (hW : s.WarmedH U.vm) : fx_TW U := by
  intro w hm hg
  have h1 := h w hm hg
  have key : ∀ w : Cond, w.onTables = true → w.keepsFace = true → w.before #[] s = true → w.before #[] U = true := by
    intro w ho hk hb
    have h2 : w.before #[] (s.setVm U.vm) = true := Cond.before_shiftedFace (State.Shifted.of_warmed hW) w hk hb
    exact va_tabs ho (rfl : (s.setVm U.vm).vm = U.vm) h2
  cases w <;> first
    | exact va_Nw.warmF hW h1
    | exact va_Nw.warmM hW h1
    | exact word_at hW (Or.inr ⟨_, rfl⟩) h1
    | (rename_i t; cases t <;> first | exact va_AO.moved hW.alike h1 | exact over_moved hW.alike h1 | (exact absurd hg (by decide)); done)
    | (simp only [fx_good, Bool.and_eq_true] at hg; exact key _ hg.1 hg.2 h1)
theorem fx_TW.calling {U : State} (h : fx_TW U) (g : JFrame) (mk : MethodId) (a : Array Value) : fx_TW (U.calling g mk a) := by
  refine fx_TW.warm h ?_
  exact State.WarmedH.refl U
/-! a cell turns, the rest stands -/
def fx_off (h h' : AH) (a : Nat) : Prop := (∀ x, x ≠ a → hp_I h' x = hp_I h x ∧ hp_L h' x = hp_L h x ∧ hp_R h' x = hp_R h x) ∧ hp_k h' = hp_k h ∧ hp_n h' = hp_n h ∧ hp_z h' = hp_z h ∧ hp_s h' = hp_s h ∧ hp_t h' = hp_t h ∧ hp_c h' = hp_c h
theorem fx_offI (h : AH) (a i : Nat) (v : Int32) : fx_off h (up_I h a i v) a := ⟨fun x hx => ⟨funext fun j => by simp [hp_I, up_I, hx], rfl, rfl⟩, rfl, rfl, rfl, rfl, rfl, rfl⟩
theorem fx_offL (h : AH) (a i : Nat) (v : Int64) : fx_off h (up_L h a i v) a := ⟨fun x hx => ⟨rfl, funext fun j => by simp [hp_L, up_L, hx], rfl⟩, rfl, rfl, rfl, rfl, rfl, rfl⟩
theorem fx_offR (h : AH) (a i : Nat) (v : Option Nat) : fx_off h (up_R h a i v) a := ⟨fun x hx => ⟨rfl, rfl, funext fun j => by simp [hp_R, up_R, hx]⟩, rfl, rfl, rfl, rfl, rfl, rfl⟩
theorem fx_offCI (h : AH) (a0 sp a dp n : Nat) : fx_off h (up_CI h a0 sp a dp n) a := ⟨fun x hx => ⟨funext fun j => by simp [hp_I, up_CI, hx], rfl, rfl⟩, rfl, rfl, rfl, rfl, rfl, rfl⟩
theorem fx_offCR (h : AH) (a0 sp a dp n : Nat) : fx_off h (up_CR h a0 sp a dp n) a := ⟨fun x hx => ⟨rfl, rfl, funext fun j => by simp [hp_R, up_CR, hx]⟩, rfl, rfl, rfl, rfl, rfl, rfl⟩
theorem fx_val.off {h h' : AH} {x : Nat} (t j : Nat) (e : hp_I h' x = hp_I h x ∧ hp_L h' x = hp_L h x ∧ hp_R h' x = hp_R h x) : fx_val t h' x j = fx_val t h x j := by
  unfold fx_val
  rw [e.1, e.2.1, e.2.2]
theorem fx_cell.same {D : DD} {h h' : AH} {H H' : Heap} {x : Nat} (c : fx_cell D h H x) (e : hp_I h' x = hp_I h x ∧ hp_L h' x = hp_L h x ∧ hp_R h' x = hp_R h x) (ek : hp_k h' x = hp_k h x) (en : hp_n h' x = hp_n h x) (eH : H'[x]? = H[x]?) : fx_cell D h' H' x := by
  refine ⟨fun ci hk hc => ?_, fun hk => ?_⟩
  · obtain ⟨r, h1, h2⟩ := c.1 ci (by rw [← ek]; exact hk) hc
    exact ⟨r, h1, (h2.kept eH).to (fun k _ => (fx_val.off _ _ e).symm)⟩
  · rw [ek] at hk ⊢
    obtain ⟨cell, q1, q2, q3, q4, q5, q6, q8, q7⟩ := c.2 hk
    refine ⟨cell, by rw [eH]; exact q1, q2, q3, by rw [en]; exact q4, fun j hj => ?_, fun hb j hj => ?_, q8, q7⟩
    · rw [fx_val.off _ _ e]; exact q5 j (by rw [← en]; exact hj)
    · rw [e.1]; exact q6 hb j (by rw [← en]; exact hj)
theorem fx_rep.set {D : DD} {h h' : AH} {H H' : Heap} {a : Nat} (r : fx_rep D h H) (o : fx_off h h' a) (hz : H'.size = H.size) (hq : ∀ q, q ≠ a → H'[q]? = H[q]?) (hb : fx_b D ≤ a) (c : fx_cell D h' H' a) : fx_rep D h' H' := by
  obtain ⟨r1, r2, r3, r4, r5, r6, r7, r8⟩ := r
  obtain ⟨o1, ok1, on1, oz1, os1, ot1, oc1⟩ := o
  refine ⟨by rw [hz, oz1]; exact r1, by rw [oz1]; exact r2, fun q hlt => by rw [hq q (by omega)]; exact r3 q hlt, fun x => ?_, fun x hx => by rw [ok1]; exact r5 x (by rw [← oz1]; exact hx), fun x => by rw [ok1]; exact r6 x, by rw [ot1]; exact r7, by rw [oc1]; exact r8⟩
  by_cases hx : x = a
  · subst hx; exact c
  · exact (r4 x).same (o1 x hx) (by rw [ok1]) (by rw [on1]) (hq x hx)
theorem fx_rep.lt {D : DD} {h : AH} {H : Heap} {a : Nat} (r : fx_rep D h H) (hk : hp_k h a ≠ 0) : a < H.size := by
  obtain ⟨r1, r2, r3, r4, r5, r6, r7, r8⟩ := r
  by_cases hx : hp_z h ≤ a
  · exact absurd (r5 a hx) hk
  · omega
/-- a new cell -/
theorem fx_rep.new {D : DD} {h : AH} {H H' : Heap} {k n m : Nat} (r : fx_rep D h H) (hz : H'.size = H.size + 1) (hq : ∀ q, q < H.size → H'[q]? = H[q]?) (c : fx_cell D (up_N h k n m) H' (hp_z h)) : fx_rep D (up_N h k n m) H' := by
  obtain ⟨r1, r2, r3, r4, r5, r6, r7, r8⟩ := r
  have ez : hp_z (up_N h k n m) = hp_z h + 1 := rfl
  refine ⟨by rw [hz, ez, r1], by rw [ez]; omega, fun q hlt => by rw [hq q (by omega)]; exact r3 q hlt, fun x => ?_, fun x hx => ?_, fun x hk0 hk => ?_, r7, r8⟩
  · by_cases hx : x = hp_z h
    · subst hx; exact c
    · by_cases hl : x < H.size
      · refine (r4 x).same ⟨funext fun j => by simp [hp_I, up_N, hx], funext fun j => by simp [hp_L, up_N, hx], funext fun j => by simp [hp_R, up_N, hx]⟩ (by simp [hp_k, up_N, hx]) (by simp [hp_n, up_N, hx]) (hq x hl)
      · have e0 : hp_k (up_N h k n m) x = 0 := by
          have : hp_k (up_N h k n m) x = hp_k h x := by simp [hp_k, up_N, hx]
          rw [this]; exact r5 x (by omega)
        exact ⟨fun ci hc => by rw [e0] at hc; omega, fun hc => by rw [e0] at hc; omega⟩
  · rw [ez] at hx
    have : hp_k (up_N h k n m) x = hp_k h x := by
      have : x ≠ hp_z h := by omega
      simp [hp_k, up_N, this]
    rw [this]; exact r5 x (by omega)
  · by_cases hx : x = hp_z h
    · omega
    · have e : hp_k (up_N h k n m) x = hp_k h x := by simp [hp_k, up_N, hx]
      rw [e] at hk0 hk
      exact r6 x hk0 hk
theorem fx_ext.off {h0 h h' : AH} {a : Nat} (x : fx_ext h0 h) (o : fx_off h h' a) : fx_ext h0 h' := ⟨fun b hb => by
  rw [o.2.1, o.2.2.1]; exact x.1 b hb, by rw [o.2.2.2.1]; exact x.2.1, by rw [o.2.2.2.2.2.1]; exact x.2.2.1, by rw [o.2.2.2.2.2.2]; exact x.2.2.2⟩
