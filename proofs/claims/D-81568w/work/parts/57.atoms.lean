/-! THE WORDS that the machine's own exceptions ask -/
set_option maxRecDepth 100000
theorem at_cons {P : Cond → Prop} {a : Cond} {l : List Cond} (h : P a) (t : ∀ x ∈ l, P x) : ∀ x ∈ a :: l, P x := fun x hx => by
  rcases List.mem_cons.mp hx with rfl | hx
  · exact h
  · exact t x hx
theorem at_nil {P : Cond → Prop} : ∀ x ∈ ([] : List Cond), P x := fun x hx => by cases hx
def OZ (A : Nat → Prop) (U : State) (H : Heap) : Prop := LZ "java/lang/Throwable" "UNASSIGNED_STACK" "[Ljava/lang/StackTraceElement;" A U H ∧ LZ "java/lang/Throwable" "SUPPRESSED_SENTINEL" "Ljava/util/List;" A U H
theorem at_npe {args : Array Value} {s : State} {K : oK} {A : Nat → Prop} (hts : ∀ w ∈ lw_all, w.before args s = true) (hN : XN s) (hO : OLD K A s s.heap) (hZ : OZ A s s.heap) : ∀ a ∈ Bundle.npeArmAtoms 8, a.before args s = true :=
  at_cons (P := fun a => a.before args s = true) (hts _ q66) <|
  at_cons (P := fun a => a.before args s = true) (hts _ q156) <|
  at_cons (P := fun a => a.before args s = true) (hts _ q165) <|
  at_cons (P := fun a => a.before args s = true) (hts _ q184) <|
  at_cons (P := fun a => a.before args s = true) (hts _ q187) <|
  at_cons (P := fun a => a.before args s = true) (hts _ q189) <|
  at_cons (P := fun a => a.before args s = true) (hts _ q157) <|
  at_cons (P := fun a => a.before args s = true) (hts _ q158) <|
  at_cons (P := fun a => a.before args s = true) (hts _ q111) <|
  at_cons (P := fun a => a.before args s = true) (hts _ q112) <|
  at_cons (P := fun a => a.before args s = true) (hts _ q159) <|
  at_cons (P := fun a => a.before args s = true) (hts _ q164) <|
  at_cons (P := fun a => a.before args s = true) (hts _ q185) <|
  at_cons (P := fun a => a.before args s = true) (hts _ q208) <|
  at_cons (P := fun a => a.before args s = true) (hts _ q146) <|
  at_cons (P := fun a => a.before args s = true) (hts _ q209) <|
  at_cons (P := fun a => a.before args s = true) (hts _ q148) <|
  at_cons (P := fun a => a.before args s = true) (hts _ q210) <|
  at_cons (P := fun a => a.before args s = true) (hts _ q150) <|
  at_cons (P := fun a => a.before args s = true) (hts _ q160) <|
  at_cons (P := fun a => a.before args s = true) (hZ.1.word) <|
  at_cons (P := fun a => a.before args s = true) (hts _ q162) <|
  at_cons (P := fun a => a.before args s = true) (hZ.2.word) <|
  at_cons (P := fun a => a.before args s = true) (hts _ q152) <|
  at_cons (P := fun a => a.before args s = true) (hts _ q181) <|
  at_cons (P := fun a => a.before args s = true) (hts _ q171) <|
  at_cons (P := fun a => a.before args s = true) (hts _ q172) <|
  at_cons (P := fun a => a.before args s = true) (hts _ q902) <|
  at_cons (P := fun a => a.before args s = true) (hts _ q904) <|
  at_cons (P := fun a => a.before args s = true) (hts _ q178) <|
  at_cons (P := fun a => a.before args s = true) (hts _ q179) <|
  at_cons (P := fun a => a.before args s = true) ((xn_at hN 41 rfl).use rfl) <|
  at_cons (P := fun a => a.before args s = true) (hts _ q893) <|
  at_cons (P := fun a => a.before args s = true) (hts _ q894) <|
  at_cons (P := fun a => a.before args s = true) (hts _ q895) <|
  at_cons (P := fun a => a.before args s = true) (hts _ q896) <|
  at_cons (P := fun a => a.before args s = true) ((xn_at hN 2 rfl).use rfl) <|
  at_cons (P := fun a => a.before args s = true) (hts _ q896) <|
  at_cons (P := fun a => a.before args s = true) (hts _ q897) <|
  at_cons (P := fun a => a.before args s = true) (hts _ q898) <|
  at_cons (P := fun a => a.before args s = true) (hts _ q899) <|
  at_cons (P := fun a => a.before args s = true) ((xn_at hN 4 rfl).use rfl) <|
  at_cons (P := fun a => a.before args s = true) (hts _ q899) <|
  at_cons (P := fun a => a.before args s = true) (hts _ q900) <|
  at_cons (P := fun a => a.before args s = true) (hts _ q901) <|
  at_cons (P := fun a => a.before args s = true) (hts _ q157) <|
  at_cons (P := fun a => a.before args s = true) ((xn_at hN 6 rfl).use rfl) <|
  at_cons (P := fun a => a.before args s = true) (hts _ q82) <|
  at_cons (P := fun a => a.before args s = true) (hts _ q176) <|
  at_cons (P := fun a => a.before args s = true) ((xn_at hN 40 rfl).use rfl) <|
  at_cons (P := fun a => a.before args s = true) (hts _ q915) <|
  at_cons (P := fun a => a.before args s = true) (hts _ q170) <|
  at_cons (P := fun a => a.before args s = true) (hts _ q910) <|
  at_cons (P := fun a => a.before args s = true) (hts _ q911) <|
  at_cons (P := fun a => a.before args s = true) (hts _ q913) <|
  at_cons (P := fun a => a.before args s = true) (at_ref hO.1) <|
  at_cons (P := fun a => a.before args s = true) (at_ref hO.2.1) <|
  at_cons (P := fun a => a.before args s = true) (hts _ q206) <|
  at_cons (P := fun a => a.before args s = true) (hts _ q154) <|
  at_cons (P := fun a => a.before args s = true) (hts _ q908) <|
  at_nil
theorem at_aioobe {args : Array Value} {s : State} {K : oK} {A : Nat → Prop} (hts : ∀ w ∈ lw_all, w.before args s = true) (hN : XN s) (hO : OLD K A s s.heap) (hZ : OZ A s s.heap) : ∀ a ∈ Bundle.messageArmAtoms "java/lang/ArrayIndexOutOfBoundsException" ["java/lang/IndexOutOfBoundsException", "java/lang/RuntimeException", "java/lang/Exception"], a.before args s = true :=
  at_cons (P := fun a => a.before args s = true) (hts _ q66) <|
  at_cons (P := fun a => a.before args s = true) (hts _ q156) <|
  at_cons (P := fun a => a.before args s = true) (hts _ q165) <|
  at_cons (P := fun a => a.before args s = true) (hts _ q184) <|
  at_cons (P := fun a => a.before args s = true) (hts _ q187) <|
  at_cons (P := fun a => a.before args s = true) (hts _ q189) <|
  at_cons (P := fun a => a.before args s = true) (hts _ q157) <|
  at_cons (P := fun a => a.before args s = true) (hts _ q158) <|
  at_cons (P := fun a => a.before args s = true) (hts _ q111) <|
  at_cons (P := fun a => a.before args s = true) (hts _ q112) <|
  at_cons (P := fun a => a.before args s = true) (hts _ q159) <|
  at_cons (P := fun a => a.before args s = true) (hts _ q164) <|
  at_cons (P := fun a => a.before args s = true) (hts _ q185) <|
  at_cons (P := fun a => a.before args s = true) (hts _ q208) <|
  at_cons (P := fun a => a.before args s = true) (hts _ q146) <|
  at_cons (P := fun a => a.before args s = true) (hts _ q209) <|
  at_cons (P := fun a => a.before args s = true) (hts _ q148) <|
  at_cons (P := fun a => a.before args s = true) (hts _ q210) <|
  at_cons (P := fun a => a.before args s = true) (hts _ q150) <|
  at_cons (P := fun a => a.before args s = true) (hts _ q160) <|
  at_cons (P := fun a => a.before args s = true) (hZ.1.word) <|
  at_cons (P := fun a => a.before args s = true) (hts _ q162) <|
  at_cons (P := fun a => a.before args s = true) (hZ.2.word) <|
  at_cons (P := fun a => a.before args s = true) (hts _ q152) <|
  at_cons (P := fun a => a.before args s = true) (hts _ q868) <|
  at_cons (P := fun a => a.before args s = true) (hts _ q869) <|
  at_cons (P := fun a => a.before args s = true) (hts _ q207) <|
  at_cons (P := fun a => a.before args s = true) (hts _ q152) <|
  at_cons (P := fun a => a.before args s = true) (hts _ q919) <|
  at_cons (P := fun a => a.before args s = true) (hts _ q920) <|
  at_cons (P := fun a => a.before args s = true) (hts _ q921) <|
  at_cons (P := fun a => a.before args s = true) (hts _ q922) <|
  at_cons (P := fun a => a.before args s = true) ((xn_at hN 44 rfl).use rfl) <|
  at_cons (P := fun a => a.before args s = true) (hts _ q922) <|
  at_cons (P := fun a => a.before args s = true) (hts _ q923) <|
  at_cons (P := fun a => a.before args s = true) (hts _ q924) <|
  at_cons (P := fun a => a.before args s = true) (hts _ q862) <|
  at_cons (P := fun a => a.before args s = true) ((xn_at hN 3 rfl).use rfl) <|
  at_cons (P := fun a => a.before args s = true) (hts _ q862) <|
  at_cons (P := fun a => a.before args s = true) (hts _ q863) <|
  at_cons (P := fun a => a.before args s = true) (hts _ q864) <|
  at_cons (P := fun a => a.before args s = true) (hts _ q865) <|
  at_cons (P := fun a => a.before args s = true) ((xn_at hN 5 rfl).use rfl) <|
  at_cons (P := fun a => a.before args s = true) (hts _ q865) <|
  at_cons (P := fun a => a.before args s = true) (hts _ q866) <|
  at_cons (P := fun a => a.before args s = true) (hts _ q867) <|
  at_cons (P := fun a => a.before args s = true) (hts _ q868) <|
  at_cons (P := fun a => a.before args s = true) ((xn_at hN 7 rfl).use rfl) <|
  at_cons (P := fun a => a.before args s = true) (hts _ q72) <|
  at_cons (P := fun a => a.before args s = true) (hts _ q879) <|
  at_cons (P := fun a => a.before args s = true) (hts _ q223) <|
  at_cons (P := fun a => a.before args s = true) (hts _ q880) <|
  at_cons (P := fun a => a.before args s = true) (hts _ q882) <|
  at_cons (P := fun a => a.before args s = true) (hts _ q881) <|
  at_cons (P := fun a => a.before args s = true) (hts _ q883) <|
  at_cons (P := fun a => a.before args s = true) (hts _ q84) <|
  at_cons (P := fun a => a.before args s = true) (hts _ q918) <|
  at_cons (P := fun a => a.before args s = true) ((xn_at hN 42 rfl).use rfl) <|
  at_cons (P := fun a => a.before args s = true) (hts _ q935) <|
  at_cons (P := fun a => a.before args s = true) (hts _ q167) <|
  at_cons (P := fun a => a.before args s = true) (hts _ q927) <|
  at_cons (P := fun a => a.before args s = true) (hts _ q928) <|
  at_cons (P := fun a => a.before args s = true) (hts _ q930) <|
  at_cons (P := fun a => a.before args s = true) (hts _ q926) <|
  at_cons (P := fun a => a.before args s = true) (at_ref hO.1) <|
  at_cons (P := fun a => a.before args s = true) (at_ref hO.2.1) <|
  at_cons (P := fun a => a.before args s = true) (hts _ q206) <|
  at_cons (P := fun a => a.before args s = true) (hts _ q154) <|
  at_cons (P := fun a => a.before args s = true) (hts _ q925) <|
  at_nil
theorem at_nase {args : Array Value} {s : State} {K : oK} {A : Nat → Prop} (hts : ∀ w ∈ lw_all, w.before args s = true) (hN : XN s) (hO : OLD K A s s.heap) (hZ : OZ A s s.heap) : ∀ a ∈ Bundle.messageArmAtoms "java/lang/NegativeArraySizeException" ["java/lang/RuntimeException", "java/lang/Exception"], a.before args s = true :=
  at_cons (P := fun a => a.before args s = true) (hts _ q66) <|
  at_cons (P := fun a => a.before args s = true) (hts _ q156) <|
  at_cons (P := fun a => a.before args s = true) (hts _ q165) <|
  at_cons (P := fun a => a.before args s = true) (hts _ q184) <|
  at_cons (P := fun a => a.before args s = true) (hts _ q187) <|
  at_cons (P := fun a => a.before args s = true) (hts _ q189) <|
  at_cons (P := fun a => a.before args s = true) (hts _ q157) <|
  at_cons (P := fun a => a.before args s = true) (hts _ q158) <|
  at_cons (P := fun a => a.before args s = true) (hts _ q111) <|
  at_cons (P := fun a => a.before args s = true) (hts _ q112) <|
  at_cons (P := fun a => a.before args s = true) (hts _ q159) <|
  at_cons (P := fun a => a.before args s = true) (hts _ q164) <|
  at_cons (P := fun a => a.before args s = true) (hts _ q185) <|
  at_cons (P := fun a => a.before args s = true) (hts _ q208) <|
  at_cons (P := fun a => a.before args s = true) (hts _ q146) <|
  at_cons (P := fun a => a.before args s = true) (hts _ q209) <|
  at_cons (P := fun a => a.before args s = true) (hts _ q148) <|
  at_cons (P := fun a => a.before args s = true) (hts _ q210) <|
  at_cons (P := fun a => a.before args s = true) (hts _ q150) <|
  at_cons (P := fun a => a.before args s = true) (hts _ q160) <|
  at_cons (P := fun a => a.before args s = true) (hZ.1.word) <|
  at_cons (P := fun a => a.before args s = true) (hts _ q162) <|
  at_cons (P := fun a => a.before args s = true) (hZ.2.word) <|
  at_cons (P := fun a => a.before args s = true) (hts _ q152) <|
  at_cons (P := fun a => a.before args s = true) (hts _ q868) <|
  at_cons (P := fun a => a.before args s = true) (hts _ q869) <|
  at_cons (P := fun a => a.before args s = true) (hts _ q207) <|
  at_cons (P := fun a => a.before args s = true) (hts _ q152) <|
  at_cons (P := fun a => a.before args s = true) (hts _ q859) <|
  at_cons (P := fun a => a.before args s = true) (hts _ q860) <|
  at_cons (P := fun a => a.before args s = true) (hts _ q861) <|
  at_cons (P := fun a => a.before args s = true) (hts _ q862) <|
  at_cons (P := fun a => a.before args s = true) ((xn_at hN 3 rfl).use rfl) <|
  at_cons (P := fun a => a.before args s = true) (hts _ q862) <|
  at_cons (P := fun a => a.before args s = true) (hts _ q863) <|
  at_cons (P := fun a => a.before args s = true) (hts _ q864) <|
  at_cons (P := fun a => a.before args s = true) (hts _ q865) <|
  at_cons (P := fun a => a.before args s = true) ((xn_at hN 5 rfl).use rfl) <|
  at_cons (P := fun a => a.before args s = true) (hts _ q865) <|
  at_cons (P := fun a => a.before args s = true) (hts _ q866) <|
  at_cons (P := fun a => a.before args s = true) (hts _ q867) <|
  at_cons (P := fun a => a.before args s = true) (hts _ q868) <|
  at_cons (P := fun a => a.before args s = true) ((xn_at hN 7 rfl).use rfl) <|
  at_cons (P := fun a => a.before args s = true) (hts _ q72) <|
  at_cons (P := fun a => a.before args s = true) (hts _ q879) <|
  at_cons (P := fun a => a.before args s = true) (hts _ q223) <|
  at_cons (P := fun a => a.before args s = true) (hts _ q880) <|
  at_cons (P := fun a => a.before args s = true) (hts _ q882) <|
  at_cons (P := fun a => a.before args s = true) (hts _ q881) <|
  at_cons (P := fun a => a.before args s = true) (hts _ q883) <|
  at_cons (P := fun a => a.before args s = true) (hts _ q81) <|
  at_cons (P := fun a => a.before args s = true) (hts _ q858) <|
  at_cons (P := fun a => a.before args s = true) ((xn_at hN 39 rfl).use rfl) <|
  at_cons (P := fun a => a.before args s = true) (hts _ q878) <|
  at_cons (P := fun a => a.before args s = true) (hts _ q169) <|
  at_cons (P := fun a => a.before args s = true) (hts _ q872) <|
  at_cons (P := fun a => a.before args s = true) (hts _ q873) <|
  at_cons (P := fun a => a.before args s = true) (hts _ q875) <|
  at_cons (P := fun a => a.before args s = true) (hts _ q871) <|
  at_cons (P := fun a => a.before args s = true) (at_ref hO.1) <|
  at_cons (P := fun a => a.before args s = true) (at_ref hO.2.1) <|
  at_cons (P := fun a => a.before args s = true) (hts _ q206) <|
  at_cons (P := fun a => a.before args s = true) (hts _ q154) <|
  at_cons (P := fun a => a.before args s = true) (hts _ q870) <|
  at_nil
theorem at_cce {args : Array Value} {s : State} {K : oK} {A : Nat → Prop} (hts : ∀ w ∈ lw_all, w.before args s = true) (hN : XN s) (hO : OLD K A s s.heap) (hZ : OZ A s s.heap) : ∀ a ∈ Bundle.messageArmAtoms "java/lang/ClassCastException" ["java/lang/RuntimeException", "java/lang/Exception"], a.before args s = true :=
  at_cons (P := fun a => a.before args s = true) (hts _ q66) <|
  at_cons (P := fun a => a.before args s = true) (hts _ q156) <|
  at_cons (P := fun a => a.before args s = true) (hts _ q165) <|
  at_cons (P := fun a => a.before args s = true) (hts _ q184) <|
  at_cons (P := fun a => a.before args s = true) (hts _ q187) <|
  at_cons (P := fun a => a.before args s = true) (hts _ q189) <|
  at_cons (P := fun a => a.before args s = true) (hts _ q157) <|
  at_cons (P := fun a => a.before args s = true) (hts _ q158) <|
  at_cons (P := fun a => a.before args s = true) (hts _ q111) <|
  at_cons (P := fun a => a.before args s = true) (hts _ q112) <|
  at_cons (P := fun a => a.before args s = true) (hts _ q159) <|
  at_cons (P := fun a => a.before args s = true) (hts _ q164) <|
  at_cons (P := fun a => a.before args s = true) (hts _ q185) <|
  at_cons (P := fun a => a.before args s = true) (hts _ q208) <|
  at_cons (P := fun a => a.before args s = true) (hts _ q146) <|
  at_cons (P := fun a => a.before args s = true) (hts _ q209) <|
  at_cons (P := fun a => a.before args s = true) (hts _ q148) <|
  at_cons (P := fun a => a.before args s = true) (hts _ q210) <|
  at_cons (P := fun a => a.before args s = true) (hts _ q150) <|
  at_cons (P := fun a => a.before args s = true) (hts _ q160) <|
  at_cons (P := fun a => a.before args s = true) (hZ.1.word) <|
  at_cons (P := fun a => a.before args s = true) (hts _ q162) <|
  at_cons (P := fun a => a.before args s = true) (hZ.2.word) <|
  at_cons (P := fun a => a.before args s = true) (hts _ q152) <|
  at_cons (P := fun a => a.before args s = true) (hts _ q868) <|
  at_cons (P := fun a => a.before args s = true) (hts _ q869) <|
  at_cons (P := fun a => a.before args s = true) (hts _ q207) <|
  at_cons (P := fun a => a.before args s = true) (hts _ q152) <|
  at_cons (P := fun a => a.before args s = true) (hts _ q945) <|
  at_cons (P := fun a => a.before args s = true) (hts _ q946) <|
  at_cons (P := fun a => a.before args s = true) (hts _ q947) <|
  at_cons (P := fun a => a.before args s = true) (hts _ q862) <|
  at_cons (P := fun a => a.before args s = true) ((xn_at hN 3 rfl).use rfl) <|
  at_cons (P := fun a => a.before args s = true) (hts _ q862) <|
  at_cons (P := fun a => a.before args s = true) (hts _ q863) <|
  at_cons (P := fun a => a.before args s = true) (hts _ q864) <|
  at_cons (P := fun a => a.before args s = true) (hts _ q865) <|
  at_cons (P := fun a => a.before args s = true) ((xn_at hN 5 rfl).use rfl) <|
  at_cons (P := fun a => a.before args s = true) (hts _ q865) <|
  at_cons (P := fun a => a.before args s = true) (hts _ q866) <|
  at_cons (P := fun a => a.before args s = true) (hts _ q867) <|
  at_cons (P := fun a => a.before args s = true) (hts _ q868) <|
  at_cons (P := fun a => a.before args s = true) ((xn_at hN 7 rfl).use rfl) <|
  at_cons (P := fun a => a.before args s = true) (hts _ q72) <|
  at_cons (P := fun a => a.before args s = true) (hts _ q879) <|
  at_cons (P := fun a => a.before args s = true) (hts _ q223) <|
  at_cons (P := fun a => a.before args s = true) (hts _ q880) <|
  at_cons (P := fun a => a.before args s = true) (hts _ q882) <|
  at_cons (P := fun a => a.before args s = true) (hts _ q881) <|
  at_cons (P := fun a => a.before args s = true) (hts _ q883) <|
  at_cons (P := fun a => a.before args s = true) (hts _ q85) <|
  at_cons (P := fun a => a.before args s = true) (hts _ q944) <|
  at_cons (P := fun a => a.before args s = true) ((xn_at hN 45 rfl).use rfl) <|
  at_cons (P := fun a => a.before args s = true) (hts _ q956) <|
  at_cons (P := fun a => a.before args s = true) (hts _ q168) <|
  at_cons (P := fun a => a.before args s = true) (hts _ q950) <|
  at_cons (P := fun a => a.before args s = true) (hts _ q951) <|
  at_cons (P := fun a => a.before args s = true) (hts _ q953) <|
  at_cons (P := fun a => a.before args s = true) (hts _ q949) <|
  at_cons (P := fun a => a.before args s = true) (at_ref hO.1) <|
  at_cons (P := fun a => a.before args s = true) (at_ref hO.2.1) <|
  at_cons (P := fun a => a.before args s = true) (hts _ q206) <|
  at_cons (P := fun a => a.before args s = true) (hts _ q154) <|
  at_cons (P := fun a => a.before args s = true) (hts _ q948) <|
  at_nil
