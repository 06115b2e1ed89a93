/-! THE INTERPRETER: the methods by number: name, code, locals, answer, handlers (printed by tools/methods.py) -/
set_option maxRecDepth 100000
abbrev zMt : Type := MethodName × ByteArray × Nat × Option FieldType × List (Nat × Nat × Nat × Nat)
/-- Foundrymark.<init>()V -/
def zm0 : zMt := (({ cls := "Foundrymark", name := "<init>", desc := "()V" } : Jvm.MethodName), cX1_init, 2, (Option.none : Option Jvm.ClassFile.FieldType), [])
/-- java/util/ArrayList.<init>()V -/
def zm1 : zMt := (({ cls := "java/util/ArrayList", name := "<init>", desc := "()V" } : Jvm.MethodName), cJ2_init, 1, (Option.none : Option Jvm.ClassFile.FieldType), [])
/-- java/util/AbstractList.<init>()V -/
def zm2 : zMt := (({ cls := "java/util/AbstractList", name := "<init>", desc := "()V" } : Jvm.MethodName), cJ1_init, 1, (Option.none : Option Jvm.ClassFile.FieldType), [])
/-- java/util/AbstractCollection.<init>()V -/
def zm3 : zMt := (({ cls := "java/util/AbstractCollection", name := "<init>", desc := "()V" } : Jvm.MethodName), cJ0_init, 1, (Option.none : Option Jvm.ClassFile.FieldType), [])
/-- Foundrymark$Supplier.<init>()V -/
def zm4 : zMt := (({ cls := "Foundrymark$Supplier", name := "<init>", desc := "()V" } : Jvm.MethodName), cX2_init, 1, (Option.none : Option Jvm.ClassFile.FieldType), [])
/-- Foundrymark.lots()I -/
def zm5 : zMt := (({ cls := "Foundrymark", name := "lots", desc := "()I" } : Jvm.MethodName), cX1_lots, 1, (Option.some Jvm.ClassFile.FieldType.int), [])
/-- java/util/ArrayList.size()I -/
def zm6 : zMt := (({ cls := "java/util/ArrayList", name := "size", desc := "()I" } : Jvm.MethodName), cJ2_size, 1, (Option.some Jvm.ClassFile.FieldType.int), [])
/-- Foundrymark.isSound()Z -/
def zm7 : zMt := (({ cls := "Foundrymark", name := "isSound", desc := "()Z" } : Jvm.MethodName), cX1_isSound, 4, (Option.some Jvm.ClassFile.FieldType.boolean), [])
/-- java/util/ArrayList.iterator()Ljava/util/Iterator; -/
def zm8 : zMt := (({ cls := "java/util/ArrayList", name := "iterator", desc := "()Ljava/util/Iterator;" } : Jvm.MethodName), cJ2_iterator, 1, (Option.some (Jvm.ClassFile.FieldType.object "java/util/Iterator")), [])
/-- java/util/ArrayList$Itr.<init>(Ljava/util/ArrayList;)V -/
def zm9 : zMt := (({ cls := "java/util/ArrayList$Itr", name := "<init>", desc := "(Ljava/util/ArrayList;)V" } : Jvm.MethodName), cJ21_init, 2, (Option.none : Option Jvm.ClassFile.FieldType), [])
/-- java/util/ArrayList$Itr.hasNext()Z -/
def zm10 : zMt := (({ cls := "java/util/ArrayList$Itr", name := "hasNext", desc := "()Z" } : Jvm.MethodName), cJ21_hasNext, 1, (Option.some Jvm.ClassFile.FieldType.boolean), [])
/-- java/util/ArrayList$Itr.next()Ljava/lang/Object; -/
def zm11 : zMt := (({ cls := "java/util/ArrayList$Itr", name := "next", desc := "()Ljava/lang/Object;" } : Jvm.MethodName), cJ21_next, 3, (Option.some (Jvm.ClassFile.FieldType.object "java/lang/Object")), [])
/-- java/util/ArrayList$Itr.checkForComodification()V -/
def zm12 : zMt := (({ cls := "java/util/ArrayList$Itr", name := "checkForComodification", desc := "()V" } : Jvm.MethodName), cJ21_checkForComodification, 1, (Option.none : Option Jvm.ClassFile.FieldType), [])
/-- java/lang/Throwable.<init>()V -/
def zm13 : zMt := (({ cls := "java/lang/Throwable", name := "<init>", desc := "()V" } : Jvm.MethodName), cJ7_init, 1, (Option.none : Option Jvm.ClassFile.FieldType), [])
/-- java/util/NoSuchElementException.<init>()V -/
def zm14 : zMt := (({ cls := "java/util/NoSuchElementException", name := "<init>", desc := "()V" } : Jvm.MethodName), cJ22_init, 1, (Option.none : Option Jvm.ClassFile.FieldType), [])
/-- java/lang/RuntimeException.<init>()V -/
def zm15 : zMt := (({ cls := "java/lang/RuntimeException", name := "<init>", desc := "()V" } : Jvm.MethodName), cJ9_init, 1, (Option.none : Option Jvm.ClassFile.FieldType), [])
/-- java/lang/Exception.<init>()V -/
def zm16 : zMt := (({ cls := "java/lang/Exception", name := "<init>", desc := "()V" } : Jvm.MethodName), cJ8_init, 1, (Option.none : Option Jvm.ClassFile.FieldType), [])
/-- Foundrymark.lotsInIt(LFoundrymark$Order;)I -/
def zm17 : zMt := (({ cls := "Foundrymark", name := "lotsInIt", desc := "(LFoundrymark$Order;)I" } : Jvm.MethodName), cX1_lotsInIt, 8, (Option.some Jvm.ClassFile.FieldType.int), [])
/-- Foundrymark.reach(LFoundrymark$Lot;[Z)V -/
def zm18 : zMt := (({ cls := "Foundrymark", name := "reach", desc := "(LFoundrymark$Lot;[Z)V" } : Jvm.MethodName), cX1_reach, 4, (Option.none : Option Jvm.ClassFile.FieldType), [])
/-- Foundrymark.touched(I)I -/
def zm19 : zMt := (({ cls := "Foundrymark", name := "touched", desc := "(I)I" } : Jvm.MethodName), cX1_touched, 6, (Option.some Jvm.ClassFile.FieldType.int), [])
/-- Foundrymark.lot(I)LFoundrymark$Lot; -/
def zm20 : zMt := (({ cls := "Foundrymark", name := "lot", desc := "(I)LFoundrymark$Lot;" } : Jvm.MethodName), cX1_lot, 2, (Option.some (Jvm.ClassFile.FieldType.object "Foundrymark$Lot")), [])
/-- Foundrymark.isBetween(III)Z -/
def zm21 : zMt := (({ cls := "Foundrymark", name := "isBetween", desc := "(III)Z" } : Jvm.MethodName), cX1_isBetween, 3, (Option.some Jvm.ClassFile.FieldType.boolean), [])
/-- Foundrymark.requireIndex(Z)V -/
def zm22 : zMt := (({ cls := "Foundrymark", name := "requireIndex", desc := "(Z)V" } : Jvm.MethodName), cX1_requireIndex, 1, (Option.none : Option Jvm.ClassFile.FieldType), [])
/-- java/lang/IndexOutOfBoundsException.<init>()V -/
def zm23 : zMt := (({ cls := "java/lang/IndexOutOfBoundsException", name := "<init>", desc := "()V" } : Jvm.MethodName), cJ14_init, 1, (Option.none : Option Jvm.ClassFile.FieldType), [])
/-- java/util/ArrayList.get(I)Ljava/lang/Object; -/
def zm24 : zMt := (({ cls := "java/util/ArrayList", name := "get", desc := "(I)Ljava/lang/Object;" } : Jvm.MethodName), cJ2_get, 2, (Option.some (Jvm.ClassFile.FieldType.object "java/lang/Object")), [])
/-- java/util/Objects.checkIndex(II)I -/
def zm25 : zMt := (({ cls := "java/util/Objects", name := "checkIndex", desc := "(II)I" } : Jvm.MethodName), cJ17_checkIndex, 2, (Option.some Jvm.ClassFile.FieldType.int), [])
/-- jdk/internal/util/Preconditions.checkIndex(IILjava/util/function/BiFunction;)I -/
def zm26 : zMt := (({ cls := "jdk/internal/util/Preconditions", name := "checkIndex", desc := "(IILjava/util/function/BiFunction;)I" } : Jvm.MethodName), cJ18_checkIndex, 3, (Option.some Jvm.ClassFile.FieldType.int), [])
/-- java/util/ArrayList.elementData(I)Ljava/lang/Object; -/
def zm27 : zMt := (({ cls := "java/util/ArrayList", name := "elementData", desc := "(I)Ljava/lang/Object;" } : Jvm.MethodName), cJ2_elementData, 2, (Option.some (Jvm.ClassFile.FieldType.object "java/lang/Object")), [])
/-- Foundrymark.isIn(LFoundrymark$Lot;LFoundrymark$Order;)Z -/
def zm28 : zMt := (({ cls := "Foundrymark", name := "isIn", desc := "(LFoundrymark$Lot;LFoundrymark$Order;)Z" } : Jvm.MethodName), cX1_isIn, 5, (Option.some Jvm.ClassFile.FieldType.boolean), [])
/-- Foundrymark$Lot.isOf(LFoundrymark$Lot;)Z -/
def zm29 : zMt := (({ cls := "Foundrymark$Lot", name := "isOf", desc := "(LFoundrymark$Lot;)Z" } : Jvm.MethodName), cX13_isOf, 5, (Option.some Jvm.ClassFile.FieldType.boolean), [])
/-- Foundrymark.arePiecesRight()Z -/
def zm30 : zMt := (({ cls := "Foundrymark", name := "arePiecesRight", desc := "()Z" } : Jvm.MethodName), cX1_arePiecesRight, 6, (Option.some Jvm.ClassFile.FieldType.boolean), [])
/-- Foundrymark$Lot.isHeld()Z -/
def zm31 : zMt := (({ cls := "Foundrymark$Lot", name := "isHeld", desc := "()Z" } : Jvm.MethodName), cX13_isHeld, 4, (Option.some Jvm.ClassFile.FieldType.boolean), [])
/-- Foundrymark.areCostsRight()Z -/
def zm32 : zMt := (({ cls := "Foundrymark", name := "areCostsRight", desc := "()Z" } : Jvm.MethodName), cX1_areCostsRight, 5, (Option.some Jvm.ClassFile.FieldType.boolean), [])
/-- Foundrymark$Stage.isUnderWay()Z -/
def zm33 : zMt := (({ cls := "Foundrymark$Stage", name := "isUnderWay", desc := "()Z" } : Jvm.MethodName), cX18_isUnderWay, 1, (Option.some Jvm.ClassFile.FieldType.boolean), [])
/-- Foundrymark.costOf(Ljava/util/ArrayList;)J -/
def zm34 : zMt := (({ cls := "Foundrymark", name := "costOf", desc := "(Ljava/util/ArrayList;)J" } : Jvm.MethodName), cX1_costOf, 5, (Option.some Jvm.ClassFile.FieldType.long), [])
/-- FoundrymarkLaw.addMachine(LFoundrymark;IIII[J)I -/
def zm35 : zMt := (({ cls := "FoundrymarkLaw", name := "addMachine", desc := "(LFoundrymark;IIII[J)I" } : Jvm.MethodName), cX0_addMachine, 7, (Option.some Jvm.ClassFile.FieldType.int), [((0 : Nat), (14 : Nat), (17 : Nat), (13 : Nat)), ((0 : Nat), (14 : Nat), (21 : Nat), (15 : Nat))])
/-- Foundrymark.addMachine(IIII)I -/
def zm36 : zMt := (({ cls := "Foundrymark", name := "addMachine", desc := "(IIII)I" } : Jvm.MethodName), cX1_addMachine, 5, (Option.some Jvm.ClassFile.FieldType.int), [])
/-- Foundrymark.requireArgument(Z)V -/
def zm37 : zMt := (({ cls := "Foundrymark", name := "requireArgument", desc := "(Z)V" } : Jvm.MethodName), cX1_requireArgument, 1, (Option.none : Option Jvm.ClassFile.FieldType), [])
/-- java/lang/IllegalArgumentException.<init>()V -/
def zm38 : zMt := (({ cls := "java/lang/IllegalArgumentException", name := "<init>", desc := "()V" } : Jvm.MethodName), cJ10_init, 1, (Option.none : Option Jvm.ClassFile.FieldType), [])
/-- Foundrymark.requireState(Z)V -/
def zm39 : zMt := (({ cls := "Foundrymark", name := "requireState", desc := "(Z)V" } : Jvm.MethodName), cX1_requireState, 1, (Option.none : Option Jvm.ClassFile.FieldType), [])
/-- java/lang/IllegalStateException.<init>()V -/
def zm40 : zMt := (({ cls := "java/lang/IllegalStateException", name := "<init>", desc := "()V" } : Jvm.MethodName), cJ11_init, 1, (Option.none : Option Jvm.ClassFile.FieldType), [])
/-- Foundrymark$Machine.<init>(IIII)V -/
def zm41 : zMt := (({ cls := "Foundrymark$Machine", name := "<init>", desc := "(IIII)V" } : Jvm.MethodName), cX5_init, 5, (Option.none : Option Jvm.ClassFile.FieldType), [])
/-- java/util/PriorityQueue.<init>()V -/
def zm42 : zMt := (({ cls := "java/util/PriorityQueue", name := "<init>", desc := "()V" } : Jvm.MethodName), cJ13_init, 1, (Option.none : Option Jvm.ClassFile.FieldType), [])
/-- java/util/PriorityQueue.<init>(ILjava/util/Comparator;)V -/
def zm43 : zMt := (({ cls := "java/util/PriorityQueue", name := "<init>", desc := "(ILjava/util/Comparator;)V" } : Jvm.MethodName), cJ13_init_2, 3, (Option.none : Option Jvm.ClassFile.FieldType), [])
/-- java/util/AbstractQueue.<init>()V -/
def zm44 : zMt := (({ cls := "java/util/AbstractQueue", name := "<init>", desc := "()V" } : Jvm.MethodName), cJ12_init, 1, (Option.none : Option Jvm.ClassFile.FieldType), [])
/-- java/util/ArrayList.add(Ljava/lang/Object;)Z -/
def zm45 : zMt := (({ cls := "java/util/ArrayList", name := "add", desc := "(Ljava/lang/Object;)Z" } : Jvm.MethodName), cJ2_add, 2, (Option.some Jvm.ClassFile.FieldType.boolean), [])
/-- java/util/ArrayList.add(Ljava/lang/Object;[Ljava/lang/Object;I)V -/
def zm46 : zMt := (({ cls := "java/util/ArrayList", name := "add", desc := "(Ljava/lang/Object;[Ljava/lang/Object;I)V" } : Jvm.MethodName), cJ2_add_2, 4, (Option.none : Option Jvm.ClassFile.FieldType), [])
/-- java/util/ArrayList.grow()[Ljava/lang/Object; -/
def zm47 : zMt := (({ cls := "java/util/ArrayList", name := "grow", desc := "()[Ljava/lang/Object;" } : Jvm.MethodName), cJ2_grow, 1, (Option.some (Jvm.ClassFile.FieldType.array (Jvm.ClassFile.FieldType.object "java/lang/Object"))), [])
/-- java/util/ArrayList.grow(I)[Ljava/lang/Object; -/
def zm48 : zMt := (({ cls := "java/util/ArrayList", name := "grow", desc := "(I)[Ljava/lang/Object;" } : Jvm.MethodName), cJ2_grow_2, 4, (Option.some (Jvm.ClassFile.FieldType.array (Jvm.ClassFile.FieldType.object "java/lang/Object"))), [])
/-- jdk/internal/util/ArraysSupport.newLength(III)I -/
def zm49 : zMt := (({ cls := "jdk/internal/util/ArraysSupport", name := "newLength", desc := "(III)I" } : Jvm.MethodName), cJ4_newLength, 4, (Option.some Jvm.ClassFile.FieldType.int), [])
/-- jdk/internal/util/ArraysSupport.hugeLength(II)I -/
def zm50 : zMt := (({ cls := "jdk/internal/util/ArraysSupport", name := "hugeLength", desc := "(II)I" } : Jvm.MethodName), cJ4_hugeLength, 3, (Option.some Jvm.ClassFile.FieldType.int), [])
/-- java/util/Arrays.copyOf([Ljava/lang/Object;I)[Ljava/lang/Object; -/
def zm51 : zMt := (({ cls := "java/util/Arrays", name := "copyOf", desc := "([Ljava/lang/Object;I)[Ljava/lang/Object;" } : Jvm.MethodName), cJ6_copyOf, 2, (Option.some (Jvm.ClassFile.FieldType.array (Jvm.ClassFile.FieldType.object "java/lang/Object"))), [])
/-- java/util/Arrays.copyOf([Ljava/lang/Object;ILjava/lang/Class;)[Ljava/lang/Object; -/
def zm52 : zMt := (({ cls := "java/util/Arrays", name := "copyOf", desc := "([Ljava/lang/Object;ILjava/lang/Class;)[Ljava/lang/Object;" } : Jvm.MethodName), cJ6_copyOf_2, 4, (Option.some (Jvm.ClassFile.FieldType.array (Jvm.ClassFile.FieldType.object "java/lang/Object"))), [])
/-- FoundrymarkLaw.addPart(LFoundrymark;ZI[J)I -/
def zm53 : zMt := (({ cls := "FoundrymarkLaw", name := "addPart", desc := "(LFoundrymark;ZI[J)I" } : Jvm.MethodName), cX0_addPart, 5, (Option.some Jvm.ClassFile.FieldType.int), [((0 : Nat), (10 : Nat), (13 : Nat), (13 : Nat)), ((0 : Nat), (10 : Nat), (17 : Nat), (15 : Nat))])
/-- Foundrymark.addPart(ZI)I -/
def zm54 : zMt := (({ cls := "Foundrymark", name := "addPart", desc := "(ZI)I" } : Jvm.MethodName), cX1_addPart, 4, (Option.some Jvm.ClassFile.FieldType.int), [])
/-- Foundrymark$Made.<init>(II)V -/
def zm55 : zMt := (({ cls := "Foundrymark$Made", name := "<init>", desc := "(II)V" } : Jvm.MethodName), cX8_init, 3, (Option.none : Option Jvm.ClassFile.FieldType), [])
/-- Foundrymark$Part.<init>(II)V -/
def zm56 : zMt := (({ cls := "Foundrymark$Part", name := "<init>", desc := "(II)V" } : Jvm.MethodName), cX7_init, 3, (Option.none : Option Jvm.ClassFile.FieldType), [])
/-- Foundrymark$Bought.<init>(II)V -/
def zm57 : zMt := (({ cls := "Foundrymark$Bought", name := "<init>", desc := "(II)V" } : Jvm.MethodName), cX9_init, 3, (Option.none : Option Jvm.ClassFile.FieldType), [])
/-- FoundrymarkLaw.addComponent(LFoundrymark;IIII[J)I -/
def zm58 : zMt := (({ cls := "FoundrymarkLaw", name := "addComponent", desc := "(LFoundrymark;IIII[J)I" } : Jvm.MethodName), cX0_addComponent, 7, (Option.some Jvm.ClassFile.FieldType.int), [((0 : Nat), (14 : Nat), (17 : Nat), (24 : Nat)), ((0 : Nat), (14 : Nat), (21 : Nat), (26 : Nat)), ((0 : Nat), (14 : Nat), (25 : Nat), (13 : Nat)), ((0 : Nat), (14 : Nat), (29 : Nat), (15 : Nat))])
/-- java/lang/ArrayIndexOutOfBoundsException.<init>(Ljava/lang/String;)V -/
def zm59 : zMt := (({ cls := "java/lang/ArrayIndexOutOfBoundsException", name := "<init>", desc := "(Ljava/lang/String;)V" } : Jvm.MethodName), cJ15_init, 2, (Option.none : Option Jvm.ClassFile.FieldType), [])
/-- java/lang/IndexOutOfBoundsException.<init>(Ljava/lang/String;)V -/
def zm60 : zMt := (({ cls := "java/lang/IndexOutOfBoundsException", name := "<init>", desc := "(Ljava/lang/String;)V" } : Jvm.MethodName), cJ14_init_2, 2, (Option.none : Option Jvm.ClassFile.FieldType), [])
/-- java/lang/RuntimeException.<init>(Ljava/lang/String;)V -/
def zm61 : zMt := (({ cls := "java/lang/RuntimeException", name := "<init>", desc := "(Ljava/lang/String;)V" } : Jvm.MethodName), cJ9_init_2, 2, (Option.none : Option Jvm.ClassFile.FieldType), [])
/-- java/lang/Exception.<init>(Ljava/lang/String;)V -/
def zm62 : zMt := (({ cls := "java/lang/Exception", name := "<init>", desc := "(Ljava/lang/String;)V" } : Jvm.MethodName), cJ8_init_2, 2, (Option.none : Option Jvm.ClassFile.FieldType), [])
/-- java/lang/Throwable.<init>(Ljava/lang/String;)V -/
def zm63 : zMt := (({ cls := "java/lang/Throwable", name := "<init>", desc := "(Ljava/lang/String;)V" } : Jvm.MethodName), cJ7_init_2, 2, (Option.none : Option Jvm.ClassFile.FieldType), [])
/-- Foundrymark.addComponent(IIII)I -/
def zm64 : zMt := (({ cls := "Foundrymark", name := "addComponent", desc := "(IIII)I" } : Jvm.MethodName), cX1_addComponent, 7, (Option.some Jvm.ClassFile.FieldType.int), [])
/-- Foundrymark.part(I)LFoundrymark$Part; -/
def zm65 : zMt := (({ cls := "Foundrymark", name := "part", desc := "(I)LFoundrymark$Part;" } : Jvm.MethodName), cX1_part, 2, (Option.some (Jvm.ClassFile.FieldType.object "Foundrymark$Part")), [])
/-- Foundrymark.requireSupported(Z)V -/
def zm66 : zMt := (({ cls := "Foundrymark", name := "requireSupported", desc := "(Z)V" } : Jvm.MethodName), cX1_requireSupported, 1, (Option.none : Option Jvm.ClassFile.FieldType), [])
/-- java/lang/UnsupportedOperationException.<init>()V -/
def zm67 : zMt := (({ cls := "java/lang/UnsupportedOperationException", name := "<init>", desc := "()V" } : Jvm.MethodName), cJ19_init, 1, (Option.none : Option Jvm.ClassFile.FieldType), [])
/-- Foundrymark$Component.<init>(III)V -/
def zm68 : zMt := (({ cls := "Foundrymark$Component", name := "<init>", desc := "(III)V" } : Jvm.MethodName), cX11_init, 4, (Option.none : Option Jvm.ClassFile.FieldType), [])
/-- FoundrymarkLaw.addOperation(LFoundrymark;IIII[J)I -/
def zm69 : zMt := (({ cls := "FoundrymarkLaw", name := "addOperation", desc := "(LFoundrymark;IIII[J)I" } : Jvm.MethodName), cX0_addOperation, 7, (Option.some Jvm.ClassFile.FieldType.int), [((0 : Nat), (14 : Nat), (17 : Nat), (24 : Nat)), ((0 : Nat), (14 : Nat), (21 : Nat), (26 : Nat)), ((0 : Nat), (14 : Nat), (25 : Nat), (13 : Nat)), ((0 : Nat), (14 : Nat), (29 : Nat), (15 : Nat))])
/-- Foundrymark.addOperation(IIII)I -/
def zm70 : zMt := (({ cls := "Foundrymark", name := "addOperation", desc := "(IIII)I" } : Jvm.MethodName), cX1_addOperation, 7, (Option.some Jvm.ClassFile.FieldType.int), [])
/-- Foundrymark.machine(I)LFoundrymark$Machine; -/
def zm71 : zMt := (({ cls := "Foundrymark", name := "machine", desc := "(I)LFoundrymark$Machine;" } : Jvm.MethodName), cX1_machine, 2, (Option.some (Jvm.ClassFile.FieldType.object "Foundrymark$Machine")), [])
/-- Foundrymark$Operation.<init>(III)V -/
def zm72 : zMt := (({ cls := "Foundrymark$Operation", name := "<init>", desc := "(III)V" } : Jvm.MethodName), cX12_init, 4, (Option.none : Option Jvm.ClassFile.FieldType), [])
/-- FoundrymarkLaw.receive(LFoundrymark;IIIII[J)I -/
def zm73 : zMt := (({ cls := "FoundrymarkLaw", name := "receive", desc := "(LFoundrymark;IIIII[J)I" } : Jvm.MethodName), cX0_receive, 8, (Option.some Jvm.ClassFile.FieldType.int), [((0 : Nat), (16 : Nat), (19 : Nat), (24 : Nat)), ((0 : Nat), (16 : Nat), (23 : Nat), (26 : Nat)), ((0 : Nat), (16 : Nat), (27 : Nat), (13 : Nat)), ((0 : Nat), (16 : Nat), (31 : Nat), (15 : Nat))])
/-- Foundrymark.receive(IIIII)I -/
def zm74 : zMt := (({ cls := "Foundrymark", name := "receive", desc := "(IIIII)I" } : Jvm.MethodName), cX1_receive, 10, (Option.some Jvm.ClassFile.FieldType.int), [])
/-- Foundrymark.add(LFoundrymark$Part;IJLjava/util/ArrayList;)LFoundrymark$Lot; -/
def zm75 : zMt := (({ cls := "Foundrymark", name := "add", desc := "(LFoundrymark$Part;IJLjava/util/ArrayList;)LFoundrymark$Lot;" } : Jvm.MethodName), cX1_add, 7, (Option.some (Jvm.ClassFile.FieldType.object "Foundrymark$Lot")), [])
/-- Foundrymark$Lot.<init>(ILFoundrymark$Part;IJLjava/util/ArrayList;)V -/
def zm76 : zMt := (({ cls := "Foundrymark$Lot", name := "<init>", desc := "(ILFoundrymark$Part;IJLjava/util/ArrayList;)V" } : Jvm.MethodName), cX13_init, 7, (Option.none : Option Jvm.ClassFile.FieldType), [])
/-- Foundrymark$Supplier.refuses(I)Z -/
def zm77 : zMt := (({ cls := "Foundrymark$Supplier", name := "refuses", desc := "(I)Z" } : Jvm.MethodName), cX2_refuses, 4, (Option.some Jvm.ClassFile.FieldType.boolean), [])
/-- java/lang/Boolean.valueOf(Z)Ljava/lang/Boolean; -/
def zm78 : zMt := (({ cls := "java/lang/Boolean", name := "valueOf", desc := "(Z)Ljava/lang/Boolean;" } : Jvm.MethodName), cJ20_valueOf, 1, (Option.some (Jvm.ClassFile.FieldType.object "java/lang/Boolean")), [])
/-- Foundrymark$Rule$1.next(Ljava/util/ArrayList;)LFoundrymark$Rule; -/
def zm79 : zMt := (({ cls := "Foundrymark$Rule$1", name := "next", desc := "(Ljava/util/ArrayList;)LFoundrymark$Rule;" } : Jvm.MethodName), cX14_next, 4, (Option.some (Jvm.ClassFile.FieldType.object "Foundrymark$Rule")), [])
/-- java/lang/Boolean.booleanValue()Z -/
def zm80 : zMt := (({ cls := "java/lang/Boolean", name := "booleanValue", desc := "()Z" } : Jvm.MethodName), cJ20_booleanValue, 1, (Option.some Jvm.ClassFile.FieldType.boolean), [])
/-- Foundrymark$Rule.areGood(Ljava/util/ArrayList;I)Z -/
def zm81 : zMt := (({ cls := "Foundrymark$Rule", name := "areGood", desc := "(Ljava/util/ArrayList;I)Z" } : Jvm.MethodName), cX3_areGood, 4, (Option.some Jvm.ClassFile.FieldType.boolean), [])
/-- Foundrymark$Rule$2.next(Ljava/util/ArrayList;)LFoundrymark$Rule; -/
def zm82 : zMt := (({ cls := "Foundrymark$Rule$2", name := "next", desc := "(Ljava/util/ArrayList;)LFoundrymark$Rule;" } : Jvm.MethodName), cX15_next, 2, (Option.some (Jvm.ClassFile.FieldType.object "Foundrymark$Rule")), [])
/-- Foundrymark$Rule$3.next(Ljava/util/ArrayList;)LFoundrymark$Rule; -/
def zm83 : zMt := (({ cls := "Foundrymark$Rule$3", name := "next", desc := "(Ljava/util/ArrayList;)LFoundrymark$Rule;" } : Jvm.MethodName), cX16_next, 2, (Option.some (Jvm.ClassFile.FieldType.object "Foundrymark$Rule")), [])
/-- java/util/ArrayList.clear()V -/
def zm84 : zMt := (({ cls := "java/util/ArrayList", name := "clear", desc := "()V" } : Jvm.MethodName), cJ2_clear, 4, (Option.none : Option Jvm.ClassFile.FieldType), [])
/-- FoundrymarkLaw.rule(LFoundrymark;I[J)I -/
def zm85 : zMt := (({ cls := "FoundrymarkLaw", name := "rule", desc := "(LFoundrymark;I[J)I" } : Jvm.MethodName), cX0_rule, 4, (Option.some Jvm.ClassFile.FieldType.int), [((0 : Nat), (9 : Nat), (12 : Nat), (24 : Nat))])
/-- Foundrymark.rule(I)C -/
def zm86 : zMt := (({ cls := "Foundrymark", name := "rule", desc := "(I)C" } : Jvm.MethodName), cX1_rule, 2, (Option.some Jvm.ClassFile.FieldType.char), [])
/-- FoundrymarkLaw.hold(LFoundrymark;IZ[J)I -/
def zm87 : zMt := (({ cls := "FoundrymarkLaw", name := "hold", desc := "(LFoundrymark;IZ[J)I" } : Jvm.MethodName), cX0_hold, 5, (Option.some Jvm.ClassFile.FieldType.int), [((0 : Nat), (10 : Nat), (13 : Nat), (24 : Nat))])
/-- Foundrymark.hold(IZ)I -/
def zm88 : zMt := (({ cls := "Foundrymark", name := "hold", desc := "(IZ)I" } : Jvm.MethodName), cX1_hold, 3, (Option.some Jvm.ClassFile.FieldType.int), [])
/-- Foundrymark.losePromises()I -/
def zm89 : zMt := (({ cls := "Foundrymark", name := "losePromises", desc := "()I" } : Jvm.MethodName), cX1_losePromises, 7, (Option.some Jvm.ClassFile.FieldType.int), [])
/-- Foundrymark.takeBack(LFoundrymark$Order;)V -/
def zm90 : zMt := (({ cls := "Foundrymark", name := "takeBack", desc := "(LFoundrymark$Order;)V" } : Jvm.MethodName), cX1_takeBack, 4, (Option.none : Option Jvm.ClassFile.FieldType), [])
/-- FoundrymarkLaw.isHeld(LFoundrymark;I[J)I -/
def zm91 : zMt := (({ cls := "FoundrymarkLaw", name := "isHeld", desc := "(LFoundrymark;I[J)I" } : Jvm.MethodName), cX0_isHeld, 4, (Option.some Jvm.ClassFile.FieldType.int), [((0 : Nat), (16 : Nat), (19 : Nat), (24 : Nat))])
/-- Foundrymark.isHeld(I)Z -/
def zm92 : zMt := (({ cls := "Foundrymark", name := "isHeld", desc := "(I)Z" } : Jvm.MethodName), cX1_isHeld, 2, (Option.some Jvm.ClassFile.FieldType.boolean), [])
/-- FoundrymarkLaw.setChart(LFoundrymark;III[J)I -/
def zm93 : zMt := (({ cls := "FoundrymarkLaw", name := "setChart", desc := "(LFoundrymark;III[J)I" } : Jvm.MethodName), cX0_setChart, 6, (Option.some Jvm.ClassFile.FieldType.int), [((0 : Nat), (12 : Nat), (15 : Nat), (24 : Nat)), ((0 : Nat), (12 : Nat), (19 : Nat), (13 : Nat))])
/-- Foundrymark.setChart(III)I -/
def zm94 : zMt := (({ cls := "Foundrymark", name := "setChart", desc := "(III)I" } : Jvm.MethodName), cX1_setChart, 5, (Option.some Jvm.ClassFile.FieldType.int), [])
/-- FoundrymarkLaw.measure(LFoundrymark;II[J)I -/
def zm95 : zMt := (({ cls := "FoundrymarkLaw", name := "measure", desc := "(LFoundrymark;II[J)I" } : Jvm.MethodName), cX0_measure, 5, (Option.some Jvm.ClassFile.FieldType.int), [((0 : Nat), (17 : Nat), (20 : Nat), (24 : Nat)), ((0 : Nat), (17 : Nat), (24 : Nat), (13 : Nat))])
/-- Foundrymark.measure(II)Z -/
def zm96 : zMt := (({ cls := "Foundrymark", name := "measure", desc := "(II)Z" } : Jvm.MethodName), cX1_measure, 5, (Option.some Jvm.ClassFile.FieldType.boolean), [])
/-- Foundrymark$Part.isOut(I)Z -/
def zm97 : zMt := (({ cls := "Foundrymark$Part", name := "isOut", desc := "(I)Z" } : Jvm.MethodName), cX7_isOut, 2, (Option.some Jvm.ClassFile.FieldType.boolean), [])
/-- FoundrymarkLaw.partOf(LFoundrymark;I[J)I -/
def zm98 : zMt := (({ cls := "FoundrymarkLaw", name := "partOf", desc := "(LFoundrymark;I[J)I" } : Jvm.MethodName), cX0_partOf, 4, (Option.some Jvm.ClassFile.FieldType.int), [((0 : Nat), (9 : Nat), (12 : Nat), (24 : Nat))])
/-- Foundrymark.partOf(I)I -/
def zm99 : zMt := (({ cls := "Foundrymark", name := "partOf", desc := "(I)I" } : Jvm.MethodName), cX1_partOf, 2, (Option.some Jvm.ClassFile.FieldType.int), [])
/-- FoundrymarkLaw.rest(LFoundrymark;I[J)I -/
def zm100 : zMt := (({ cls := "FoundrymarkLaw", name := "rest", desc := "(LFoundrymark;I[J)I" } : Jvm.MethodName), cX0_rest, 4, (Option.some Jvm.ClassFile.FieldType.int), [((0 : Nat), (9 : Nat), (12 : Nat), (24 : Nat))])
/-- Foundrymark.rest(I)I -/
def zm101 : zMt := (({ cls := "Foundrymark", name := "rest", desc := "(I)I" } : Jvm.MethodName), cX1_rest, 2, (Option.some Jvm.ClassFile.FieldType.int), [])
/-- FoundrymarkLaw.reserved(LFoundrymark;I[J)I -/
def zm102 : zMt := (({ cls := "FoundrymarkLaw", name := "reserved", desc := "(LFoundrymark;I[J)I" } : Jvm.MethodName), cX0_reserved, 4, (Option.some Jvm.ClassFile.FieldType.int), [((0 : Nat), (9 : Nat), (12 : Nat), (24 : Nat))])
/-- Foundrymark.reserved(I)I -/
def zm103 : zMt := (({ cls := "Foundrymark", name := "reserved", desc := "(I)I" } : Jvm.MethodName), cX1_reserved, 2, (Option.some Jvm.ClassFile.FieldType.int), [])
/-- FoundrymarkLaw.costOf(LFoundrymark;I[J)I -/
def zm104 : zMt := (({ cls := "FoundrymarkLaw", name := "costOf", desc := "(LFoundrymark;I[J)I" } : Jvm.MethodName), cX0_costOf, 4, (Option.some Jvm.ClassFile.FieldType.int), [((0 : Nat), (8 : Nat), (11 : Nat), (24 : Nat))])
/-- Foundrymark.costOf(I)J -/
def zm105 : zMt := (({ cls := "Foundrymark", name := "costOf", desc := "(I)J" } : Jvm.MethodName), cX1_costOf_2, 2, (Option.some Jvm.ClassFile.FieldType.long), [])
/-- FoundrymarkLaw.order(LFoundrymark;IIII[J)I -/
def zm106 : zMt := (({ cls := "FoundrymarkLaw", name := "order", desc := "(LFoundrymark;IIII[J)I" } : Jvm.MethodName), cX0_order, 7, (Option.some Jvm.ClassFile.FieldType.int), [((0 : Nat), (14 : Nat), (17 : Nat), (24 : Nat)), ((0 : Nat), (14 : Nat), (21 : Nat), (13 : Nat)), ((0 : Nat), (14 : Nat), (25 : Nat), (15 : Nat))])
/-- Foundrymark.order(IIII)I -/
def zm107 : zMt := (({ cls := "Foundrymark", name := "order", desc := "(IIII)I" } : Jvm.MethodName), cX1_order, 6, (Option.some Jvm.ClassFile.FieldType.int), [])
/-- Foundrymark$Order.<init>(ILFoundrymark$Part;III)V -/
def zm108 : zMt := (({ cls := "Foundrymark$Order", name := "<init>", desc := "(ILFoundrymark$Part;III)V" } : Jvm.MethodName), cX19_init, 6, (Option.none : Option Jvm.ClassFile.FieldType), [])
/-- FoundrymarkLaw.promise(LFoundrymark;I[J)I -/
def zm109 : zMt := (({ cls := "FoundrymarkLaw", name := "promise", desc := "(LFoundrymark;I[J)I" } : Jvm.MethodName), cX0_promise, 4, (Option.some Jvm.ClassFile.FieldType.int), [((0 : Nat), (16 : Nat), (19 : Nat), (24 : Nat)), ((0 : Nat), (16 : Nat), (22 : Nat), (26 : Nat))])
/-- Foundrymark.promise(I)Z -/
def zm110 : zMt := (({ cls := "Foundrymark", name := "promise", desc := "(I)Z" } : Jvm.MethodName), cX1_promise, 3, (Option.some Jvm.ClassFile.FieldType.boolean), [])
/-- Foundrymark.theOrder(I)LFoundrymark$Order; -/
def zm111 : zMt := (({ cls := "Foundrymark", name := "theOrder", desc := "(I)LFoundrymark$Order;" } : Jvm.MethodName), cX1_theOrder, 2, (Option.some (Jvm.ClassFile.FieldType.object "Foundrymark$Order")), [])
/-- Foundrymark.reserveAll(LFoundrymark$Order;)Z -/
def zm112 : zMt := (({ cls := "Foundrymark", name := "reserveAll", desc := "(LFoundrymark$Order;)Z" } : Jvm.MethodName), cX1_reserveAll, 4, (Option.some Jvm.ClassFile.FieldType.boolean), [((0 : Nat), (73 : Nat), (74 : Nat), (249 : Nat))])
/-- Foundrymark$Component.isFor(I)Z -/
def zm113 : zMt := (({ cls := "Foundrymark$Component", name := "isFor", desc := "(I)Z" } : Jvm.MethodName), cX11_isFor, 2, (Option.some Jvm.ClassFile.FieldType.boolean), [])
/-- Foundrymark.reserve(LFoundrymark$Order;II)V -/
def zm114 : zMt := (({ cls := "Foundrymark", name := "reserve", desc := "(LFoundrymark$Order;II)V" } : Jvm.MethodName), cX1_reserve, 8, (Option.none : Option Jvm.ClassFile.FieldType), [])
/-- Foundrymark$Taken.<init>(LFoundrymark$Lot;I)V -/
def zm115 : zMt := (({ cls := "Foundrymark$Taken", name := "<init>", desc := "(LFoundrymark$Lot;I)V" } : Jvm.MethodName), cX21_init, 3, (Option.none : Option Jvm.ClassFile.FieldType), [])
/-- Foundrymark$Lack.<init>(Ljava/lang/RuntimeException;)V -/
def zm116 : zMt := (({ cls := "Foundrymark$Lack", name := "<init>", desc := "(Ljava/lang/RuntimeException;)V" } : Jvm.MethodName), cX22_init, 2, (Option.none : Option Jvm.ClassFile.FieldType), [])
/-- java/lang/Exception.<init>(Ljava/lang/String;Ljava/lang/Throwable;)V -/
def zm117 : zMt := (({ cls := "java/lang/Exception", name := "<init>", desc := "(Ljava/lang/String;Ljava/lang/Throwable;)V" } : Jvm.MethodName), cJ8_init_3, 3, (Option.none : Option Jvm.ClassFile.FieldType), [])
/-- java/lang/Throwable.<init>(Ljava/lang/String;Ljava/lang/Throwable;)V -/
def zm118 : zMt := (({ cls := "java/lang/Throwable", name := "<init>", desc := "(Ljava/lang/String;Ljava/lang/Throwable;)V" } : Jvm.MethodName), cJ7_init_3, 3, (Option.none : Option Jvm.ClassFile.FieldType), [])
/-- FoundrymarkLaw.withdraw(LFoundrymark;I[J)I -/
def zm119 : zMt := (({ cls := "FoundrymarkLaw", name := "withdraw", desc := "(LFoundrymark;I[J)I" } : Jvm.MethodName), cX0_withdraw, 4, (Option.some Jvm.ClassFile.FieldType.int), [((0 : Nat), (9 : Nat), (12 : Nat), (24 : Nat)), ((0 : Nat), (9 : Nat), (15 : Nat), (26 : Nat))])
/-- Foundrymark.withdraw(I)I -/
def zm120 : zMt := (({ cls := "Foundrymark", name := "withdraw", desc := "(I)I" } : Jvm.MethodName), cX1_withdraw, 6, (Option.some Jvm.ClassFile.FieldType.int), [])
/-- FoundrymarkLaw.release(LFoundrymark;I[J)I -/
def zm121 : zMt := (({ cls := "FoundrymarkLaw", name := "release", desc := "(LFoundrymark;I[J)I" } : Jvm.MethodName), cX0_release, 4, (Option.some Jvm.ClassFile.FieldType.int), [((0 : Nat), (16 : Nat), (19 : Nat), (24 : Nat)), ((0 : Nat), (16 : Nat), (22 : Nat), (26 : Nat))])
/-- Foundrymark.release(I)Z -/
def zm122 : zMt := (({ cls := "Foundrymark", name := "release", desc := "(I)Z" } : Jvm.MethodName), cX1_release, 6, (Option.some Jvm.ClassFile.FieldType.boolean), [])
/-- Foundrymark.give(LFoundrymark$Taken;)J -/
def zm123 : zMt := (({ cls := "Foundrymark", name := "give", desc := "(LFoundrymark$Taken;)J" } : Jvm.MethodName), cX1_give, 2, (Option.some Jvm.ClassFile.FieldType.long), [((0 : Nat), (8 : Nat), (11 : Nat), (249 : Nat))])
/-- Foundrymark$Lot.give(LFoundrymark$Taken;)V -/
def zm124 : zMt := (({ cls := "Foundrymark$Lot", name := "give", desc := "(LFoundrymark$Taken;)V" } : Jvm.MethodName), cX13_give, 2, (Option.none : Option Jvm.ClassFile.FieldType), [])
/-- java/lang/IllegalStateException.<init>(Ljava/lang/String;Ljava/lang/Throwable;)V -/
def zm125 : zMt := (({ cls := "java/lang/IllegalStateException", name := "<init>", desc := "(Ljava/lang/String;Ljava/lang/Throwable;)V" } : Jvm.MethodName), cJ11_init_2, 3, (Option.none : Option Jvm.ClassFile.FieldType), [])
/-- java/lang/RuntimeException.<init>(Ljava/lang/String;Ljava/lang/Throwable;)V -/
def zm126 : zMt := (({ cls := "java/lang/RuntimeException", name := "<init>", desc := "(Ljava/lang/String;Ljava/lang/Throwable;)V" } : Jvm.MethodName), cJ9_init_3, 3, (Option.none : Option Jvm.ClassFile.FieldType), [])
/-- Foundrymark.goOn(LFoundrymark$Order;)V -/
def zm127 : zMt := (({ cls := "Foundrymark", name := "goOn", desc := "(LFoundrymark$Order;)V" } : Jvm.MethodName), cX1_goOn, 6, (Option.none : Option Jvm.ClassFile.FieldType), [])
/-- Foundrymark.finish(LFoundrymark$Order;)V -/
def zm128 : zMt := (({ cls := "Foundrymark", name := "finish", desc := "(LFoundrymark$Order;)V" } : Jvm.MethodName), cX1_finish, 2, (Option.none : Option Jvm.ClassFile.FieldType), [])
/-- Foundrymark$Machine.jobs()I -/
def zm129 : zMt := (({ cls := "Foundrymark$Machine", name := "jobs", desc := "()I" } : Jvm.MethodName), cX5_jobs, 1, (Option.some Jvm.ClassFile.FieldType.int), [])
/-- java/util/PriorityQueue.size()I -/
def zm130 : zMt := (({ cls := "java/util/PriorityQueue", name := "size", desc := "()I" } : Jvm.MethodName), cJ13_size, 1, (Option.some Jvm.ClassFile.FieldType.int), [])
/-- java/util/PriorityQueue.add(Ljava/lang/Object;)Z -/
def zm131 : zMt := (({ cls := "java/util/PriorityQueue", name := "add", desc := "(Ljava/lang/Object;)Z" } : Jvm.MethodName), cJ13_add, 2, (Option.some Jvm.ClassFile.FieldType.boolean), [])
/-- java/util/PriorityQueue.offer(Ljava/lang/Object;)Z -/
def zm132 : zMt := (({ cls := "java/util/PriorityQueue", name := "offer", desc := "(Ljava/lang/Object;)Z" } : Jvm.MethodName), cJ13_offer, 3, (Option.some Jvm.ClassFile.FieldType.boolean), [])
/-- java/util/PriorityQueue.grow(I)V -/
def zm133 : zMt := (({ cls := "java/util/PriorityQueue", name := "grow", desc := "(I)V" } : Jvm.MethodName), cJ13_grow, 4, (Option.none : Option Jvm.ClassFile.FieldType), [])
/-- java/util/PriorityQueue.siftUp(ILjava/lang/Object;)V -/
def zm134 : zMt := (({ cls := "java/util/PriorityQueue", name := "siftUp", desc := "(ILjava/lang/Object;)V" } : Jvm.MethodName), cJ13_siftUp, 3, (Option.none : Option Jvm.ClassFile.FieldType), [])
/-- java/util/PriorityQueue.siftUpUsingComparator(ILjava/lang/Object;[Ljava/lang/Object;Ljava/util/Comparator;)V -/
def zm135 : zMt := (({ cls := "java/util/PriorityQueue", name := "siftUpUsingComparator", desc := "(ILjava/lang/Object;[Ljava/lang/Object;Ljava/util/Comparator;)V" } : Jvm.MethodName), cJ13_siftUpUsingComparator, 6, (Option.none : Option Jvm.ClassFile.FieldType), [])
/-- java/util/PriorityQueue.siftUpComparable(ILjava/lang/Object;[Ljava/lang/Object;)V -/
def zm136 : zMt := (({ cls := "java/util/PriorityQueue", name := "siftUpComparable", desc := "(ILjava/lang/Object;[Ljava/lang/Object;)V" } : Jvm.MethodName), cJ13_siftUpComparable, 6, (Option.none : Option Jvm.ClassFile.FieldType), [])
/-- Foundrymark$Order.compareTo(Ljava/lang/Object;)I -/
def zm137 : zMt := (({ cls := "Foundrymark$Order", name := "compareTo", desc := "(Ljava/lang/Object;)I" } : Jvm.MethodName), cX19_compareTo, 2, (Option.some Jvm.ClassFile.FieldType.int), [])
/-- Foundrymark$Order.compareTo(LFoundrymark$Order;)I -/
def zm138 : zMt := (({ cls := "Foundrymark$Order", name := "compareTo", desc := "(LFoundrymark$Order;)I" } : Jvm.MethodName), cX19_compareTo_2, 2, (Option.some Jvm.ClassFile.FieldType.int), [])
/-- java/lang/Integer.compare(II)I -/
def zm139 : zMt := (({ cls := "java/lang/Integer", name := "compare", desc := "(II)I" } : Jvm.MethodName), cJ24_compare, 2, (Option.some Jvm.ClassFile.FieldType.int), [])
/-- java/lang/Enum.compareTo(Ljava/lang/Object;)I -/
def zm140 : zMt := (({ cls := "java/lang/Enum", name := "compareTo", desc := "(Ljava/lang/Object;)I" } : Jvm.MethodName), cJ3_compareTo, 2, (Option.some Jvm.ClassFile.FieldType.int), [])
/-- java/lang/Enum.compareTo(Ljava/lang/Enum;)I -/
def zm141 : zMt := (({ cls := "java/lang/Enum", name := "compareTo", desc := "(Ljava/lang/Enum;)I" } : Jvm.MethodName), cJ3_compareTo_2, 4, (Option.some Jvm.ClassFile.FieldType.int), [])
/-- java/lang/Enum.getDeclaringClass()Ljava/lang/Class; -/
def zm142 : zMt := (({ cls := "java/lang/Enum", name := "getDeclaringClass", desc := "()Ljava/lang/Class;" } : Jvm.MethodName), cJ3_getDeclaringClass, 3, (Option.some (Jvm.ClassFile.FieldType.object "java/lang/Class")), [])
/-- java/lang/Boolean.compareTo(Ljava/lang/Object;)I -/
def zm143 : zMt := (({ cls := "java/lang/Boolean", name := "compareTo", desc := "(Ljava/lang/Object;)I" } : Jvm.MethodName), cJ20_compareTo, 2, (Option.some Jvm.ClassFile.FieldType.int), [])
/-- java/lang/Boolean.compareTo(Ljava/lang/Boolean;)I -/
def zm144 : zMt := (({ cls := "java/lang/Boolean", name := "compareTo", desc := "(Ljava/lang/Boolean;)I" } : Jvm.MethodName), cJ20_compareTo_2, 2, (Option.some Jvm.ClassFile.FieldType.int), [])
/-- java/lang/Boolean.compare(ZZ)I -/
def zm145 : zMt := (({ cls := "java/lang/Boolean", name := "compare", desc := "(ZZ)I" } : Jvm.MethodName), cJ20_compare, 2, (Option.some Jvm.ClassFile.FieldType.int), [])
/-- java/lang/Integer.compareTo(Ljava/lang/Object;)I -/
def zm146 : zMt := (({ cls := "java/lang/Integer", name := "compareTo", desc := "(Ljava/lang/Object;)I" } : Jvm.MethodName), cJ24_compareTo, 2, (Option.some Jvm.ClassFile.FieldType.int), [])
/-- java/lang/Integer.compareTo(Ljava/lang/Integer;)I -/
def zm147 : zMt := (({ cls := "java/lang/Integer", name := "compareTo", desc := "(Ljava/lang/Integer;)I" } : Jvm.MethodName), cJ24_compareTo_2, 2, (Option.some Jvm.ClassFile.FieldType.int), [])
/-- Foundrymark.beginAll()V -/
def zm148 : zMt := (({ cls := "Foundrymark", name := "beginAll", desc := "()V" } : Jvm.MethodName), cX1_beginAll, 3, (Option.none : Option Jvm.ClassFile.FieldType), [])
/-- Foundrymark$Machine.isFree()Z -/
def zm149 : zMt := (({ cls := "Foundrymark$Machine", name := "isFree", desc := "()Z" } : Jvm.MethodName), cX5_isFree, 1, (Option.some Jvm.ClassFile.FieldType.boolean), [])
/-- java/util/AbstractCollection.isEmpty()Z -/
def zm150 : zMt := (({ cls := "java/util/AbstractCollection", name := "isEmpty", desc := "()Z" } : Jvm.MethodName), cJ0_isEmpty, 1, (Option.some Jvm.ClassFile.FieldType.boolean), [])
/-- Foundrymark.begin(LFoundrymark$Machine;)V -/
def zm151 : zMt := (({ cls := "Foundrymark", name := "begin", desc := "(LFoundrymark$Machine;)V" } : Jvm.MethodName), cX1_begin, 7, (Option.none : Option Jvm.ClassFile.FieldType), [])
/-- java/util/PriorityQueue.poll()Ljava/lang/Object; -/
def zm152 : zMt := (({ cls := "java/util/PriorityQueue", name := "poll", desc := "()Ljava/lang/Object;" } : Jvm.MethodName), cJ13_poll, 6, (Option.some (Jvm.ClassFile.FieldType.object "java/lang/Object")), [])
/-- java/util/PriorityQueue.siftDownComparable(ILjava/lang/Object;[Ljava/lang/Object;I)V -/
def zm153 : zMt := (({ cls := "java/util/PriorityQueue", name := "siftDownComparable", desc := "(ILjava/lang/Object;[Ljava/lang/Object;I)V" } : Jvm.MethodName), cJ13_siftDownComparable, 9, (Option.none : Option Jvm.ClassFile.FieldType), [])
/-- java/util/PriorityQueue.siftDownUsingComparator(ILjava/lang/Object;[Ljava/lang/Object;ILjava/util/Comparator;)V -/
def zm154 : zMt := (({ cls := "java/util/PriorityQueue", name := "siftDownUsingComparator", desc := "(ILjava/lang/Object;[Ljava/lang/Object;ILjava/util/Comparator;)V" } : Jvm.MethodName), cJ13_siftDownUsingComparator, 9, (Option.none : Option Jvm.ClassFile.FieldType), [])
/-- FoundrymarkLaw.scrap(LFoundrymark;II[J)I -/
def zm155 : zMt := (({ cls := "FoundrymarkLaw", name := "scrap", desc := "(LFoundrymark;II[J)I" } : Jvm.MethodName), cX0_scrap, 5, (Option.some Jvm.ClassFile.FieldType.int), [((0 : Nat), (10 : Nat), (13 : Nat), (24 : Nat)), ((0 : Nat), (10 : Nat), (17 : Nat), (26 : Nat)), ((0 : Nat), (10 : Nat), (21 : Nat), (13 : Nat))])
/-- Foundrymark.scrap(II)I -/
def zm156 : zMt := (({ cls := "Foundrymark", name := "scrap", desc := "(II)I" } : Jvm.MethodName), cX1_scrap, 4, (Option.some Jvm.ClassFile.FieldType.int), [])
/-- FoundrymarkLaw.advance(LFoundrymark;I[J)I -/
def zm157 : zMt := (({ cls := "FoundrymarkLaw", name := "advance", desc := "(LFoundrymark;I[J)I" } : Jvm.MethodName), cX0_advance, 4, (Option.some Jvm.ClassFile.FieldType.int), [((0 : Nat), (9 : Nat), (12 : Nat), (13 : Nat)), ((0 : Nat), (9 : Nat), (15 : Nat), (15 : Nat))])
/-- Foundrymark.advance(I)I -/
def zm158 : zMt := (({ cls := "Foundrymark", name := "advance", desc := "(I)I" } : Jvm.MethodName), cX1_advance, 5, (Option.some Jvm.ClassFile.FieldType.int), [])
/-- Foundrymark$Machine.endsAt(I)Z -/
def zm159 : zMt := (({ cls := "Foundrymark$Machine", name := "endsAt", desc := "(I)Z" } : Jvm.MethodName), cX5_endsAt, 2, (Option.some Jvm.ClassFile.FieldType.boolean), [])
/-- Foundrymark.end(LFoundrymark$Machine;)V -/
def zm160 : zMt := (({ cls := "Foundrymark", name := "end", desc := "(LFoundrymark$Machine;)V" } : Jvm.MethodName), cX1_end, 3, (Option.none : Option Jvm.ClassFile.FieldType), [])
/-- FoundrymarkLaw.deliver(LFoundrymark;I[J)I -/
def zm161 : zMt := (({ cls := "FoundrymarkLaw", name := "deliver", desc := "(LFoundrymark;I[J)I" } : Jvm.MethodName), cX0_deliver, 4, (Option.some Jvm.ClassFile.FieldType.int), [((0 : Nat), (16 : Nat), (19 : Nat), (24 : Nat)), ((0 : Nat), (16 : Nat), (22 : Nat), (26 : Nat))])
/-- Foundrymark.deliver(I)Z -/
def zm162 : zMt := (({ cls := "Foundrymark", name := "deliver", desc := "(I)Z" } : Jvm.MethodName), cX1_deliver, 8, (Option.some Jvm.ClassFile.FieldType.boolean), [])
/-- Foundrymark.plan(Ljava/util/ArrayList;LFoundrymark$Lot;I)I -/
def zm163 : zMt := (({ cls := "Foundrymark", name := "plan", desc := "(Ljava/util/ArrayList;LFoundrymark$Lot;I)I" } : Jvm.MethodName), cX1_plan, 4, (Option.some Jvm.ClassFile.FieldType.int), [])
/-- java/util/ArrayList.addAll(Ljava/util/Collection;)Z -/
def zm164 : zMt := (({ cls := "java/util/ArrayList", name := "addAll", desc := "(Ljava/util/Collection;)Z" } : Jvm.MethodName), cJ2_addAll, 6, (Option.some Jvm.ClassFile.FieldType.boolean), [])
/-- java/util/ArrayList.toArray()[Ljava/lang/Object; -/
def zm165 : zMt := (({ cls := "java/util/ArrayList", name := "toArray", desc := "()[Ljava/lang/Object;" } : Jvm.MethodName), cJ2_toArray, 1, (Option.some (Jvm.ClassFile.FieldType.array (Jvm.ClassFile.FieldType.object "java/lang/Object"))), [])
/-- java/util/PriorityQueue.toArray()[Ljava/lang/Object; -/
def zm166 : zMt := (({ cls := "java/util/PriorityQueue", name := "toArray", desc := "()[Ljava/lang/Object;" } : Jvm.MethodName), cJ13_toArray, 1, (Option.some (Jvm.ClassFile.FieldType.array (Jvm.ClassFile.FieldType.object "java/lang/Object"))), [])
/-- FoundrymarkLaw.stateOf(LFoundrymark;I[J)I -/
def zm167 : zMt := (({ cls := "FoundrymarkLaw", name := "stateOf", desc := "(LFoundrymark;I[J)I" } : Jvm.MethodName), cX0_stateOf, 4, (Option.some Jvm.ClassFile.FieldType.int), [((0 : Nat), (9 : Nat), (12 : Nat), (24 : Nat))])
/-- Foundrymark.stateOf(I)C -/
def zm168 : zMt := (({ cls := "Foundrymark", name := "stateOf", desc := "(I)C" } : Jvm.MethodName), cX1_stateOf, 2, (Option.some Jvm.ClassFile.FieldType.char), [])
/-- FoundrymarkLaw.lotOf(LFoundrymark;I[J)I -/
def zm169 : zMt := (({ cls := "FoundrymarkLaw", name := "lotOf", desc := "(LFoundrymark;I[J)I" } : Jvm.MethodName), cX0_lotOf, 4, (Option.some Jvm.ClassFile.FieldType.int), [((0 : Nat), (9 : Nat), (12 : Nat), (24 : Nat)), ((0 : Nat), (9 : Nat), (15 : Nat), (97 : Nat))])
/-- Foundrymark.lotOf(I)I -/
def zm170 : zMt := (({ cls := "Foundrymark", name := "lotOf", desc := "(I)I" } : Jvm.MethodName), cX1_lotOf, 3, (Option.some Jvm.ClassFile.FieldType.int), [])
/-- Foundrymark.requireElement(Z)V -/
def zm171 : zMt := (({ cls := "Foundrymark", name := "requireElement", desc := "(Z)V" } : Jvm.MethodName), cX1_requireElement, 1, (Option.none : Option Jvm.ClassFile.FieldType), [])
/-- FoundrymarkLaw.finishedAt(LFoundrymark;I[J)I -/
def zm172 : zMt := (({ cls := "FoundrymarkLaw", name := "finishedAt", desc := "(LFoundrymark;I[J)I" } : Jvm.MethodName), cX0_finishedAt, 4, (Option.some Jvm.ClassFile.FieldType.int), [((0 : Nat), (9 : Nat), (12 : Nat), (24 : Nat)), ((0 : Nat), (9 : Nat), (15 : Nat), (97 : Nat))])
/-- Foundrymark.finishedAt(I)I -/
def zm173 : zMt := (({ cls := "Foundrymark", name := "finishedAt", desc := "(I)I" } : Jvm.MethodName), cX1_finishedAt, 3, (Option.some Jvm.ClassFile.FieldType.int), [])
/-- FoundrymarkLaw.machineIs(LFoundrymark;I[J)I -/
def zm174 : zMt := (({ cls := "FoundrymarkLaw", name := "machineIs", desc := "(LFoundrymark;I[J)I" } : Jvm.MethodName), cX0_machineIs, 4, (Option.some Jvm.ClassFile.FieldType.int), [((0 : Nat), (9 : Nat), (12 : Nat), (24 : Nat))])
/-- Foundrymark.machineIs(I)C -/
def zm175 : zMt := (({ cls := "Foundrymark", name := "machineIs", desc := "(I)C" } : Jvm.MethodName), cX1_machineIs, 3, (Option.some Jvm.ClassFile.FieldType.char), [])
/-- FoundrymarkLaw.wear(LFoundrymark;I[J)I -/
def zm176 : zMt := (({ cls := "FoundrymarkLaw", name := "wear", desc := "(LFoundrymark;I[J)I" } : Jvm.MethodName), cX0_wear, 4, (Option.some Jvm.ClassFile.FieldType.int), [((0 : Nat), (9 : Nat), (12 : Nat), (24 : Nat))])
/-- Foundrymark.wear(I)I -/
def zm177 : zMt := (({ cls := "Foundrymark", name := "wear", desc := "(I)I" } : Jvm.MethodName), cX1_wear, 2, (Option.some Jvm.ClassFile.FieldType.int), [])
/-- FoundrymarkLaw.waiting(LFoundrymark;I[J)I -/
def zm178 : zMt := (({ cls := "FoundrymarkLaw", name := "waiting", desc := "(LFoundrymark;I[J)I" } : Jvm.MethodName), cX0_waiting, 4, (Option.some Jvm.ClassFile.FieldType.int), [((0 : Nat), (9 : Nat), (12 : Nat), (24 : Nat))])
/-- Foundrymark.waiting(I)I -/
def zm179 : zMt := (({ cls := "Foundrymark", name := "waiting", desc := "(I)I" } : Jvm.MethodName), cX1_waiting, 2, (Option.some Jvm.ClassFile.FieldType.int), [])
/-- FoundrymarkLaw.isIn(LFoundrymark;II[J)I -/
def zm180 : zMt := (({ cls := "FoundrymarkLaw", name := "isIn", desc := "(LFoundrymark;II[J)I" } : Jvm.MethodName), cX0_isIn, 5, (Option.some Jvm.ClassFile.FieldType.int), [((0 : Nat), (17 : Nat), (20 : Nat), (24 : Nat))])
/-- Foundrymark.isIn(II)Z -/
def zm181 : zMt := (({ cls := "Foundrymark", name := "isIn", desc := "(II)Z" } : Jvm.MethodName), cX1_isIn_2, 4, (Option.some Jvm.ClassFile.FieldType.boolean), [])
/-- FoundrymarkLaw.touched(LFoundrymark;I[J)I -/
def zm182 : zMt := (({ cls := "FoundrymarkLaw", name := "touched", desc := "(LFoundrymark;I[J)I" } : Jvm.MethodName), cX0_touched, 4, (Option.some Jvm.ClassFile.FieldType.int), [((0 : Nat), (9 : Nat), (12 : Nat), (24 : Nat))])
/-- FoundrymarkLaw.lotsIn(LFoundrymark;I[J)I -/
def zm183 : zMt := (({ cls := "FoundrymarkLaw", name := "lotsIn", desc := "(LFoundrymark;I[J)I" } : Jvm.MethodName), cX0_lotsIn, 4, (Option.some Jvm.ClassFile.FieldType.int), [((0 : Nat), (9 : Nat), (12 : Nat), (24 : Nat))])
/-- Foundrymark.lotsIn(I)I -/
def zm184 : zMt := (({ cls := "Foundrymark", name := "lotsIn", desc := "(I)I" } : Jvm.MethodName), cX1_lotsIn, 2, (Option.some Jvm.ClassFile.FieldType.int), [])
/-- FoundrymarkLaw.deliveredCost(LFoundrymark;I[J)I -/
def zm185 : zMt := (({ cls := "FoundrymarkLaw", name := "deliveredCost", desc := "(LFoundrymark;I[J)I" } : Jvm.MethodName), cX0_deliveredCost, 4, (Option.some Jvm.ClassFile.FieldType.int), [((0 : Nat), (8 : Nat), (11 : Nat), (24 : Nat)), ((0 : Nat), (8 : Nat), (14 : Nat), (97 : Nat))])
/-- Foundrymark.deliveredCost(I)J -/
def zm186 : zMt := (({ cls := "Foundrymark", name := "deliveredCost", desc := "(I)J" } : Jvm.MethodName), cX1_deliveredCost, 3, (Option.some Jvm.ClassFile.FieldType.long), [])
/-- FoundrymarkLaw.inTimeShare(LFoundrymark;[D)I -/
def zm187 : zMt := (({ cls := "FoundrymarkLaw", name := "inTimeShare", desc := "(LFoundrymark;[D)I" } : Jvm.MethodName), cX0_inTimeShare, 3, (Option.some Jvm.ClassFile.FieldType.int), [((0 : Nat), (8 : Nat), (11 : Nat), (127 : Nat))])
/-- java/lang/ArithmeticException.<init>(Ljava/lang/String;)V -/
def zm188 : zMt := (({ cls := "java/lang/ArithmeticException", name := "<init>", desc := "(Ljava/lang/String;)V" } : Jvm.MethodName), cJ25_init, 2, (Option.none : Option Jvm.ClassFile.FieldType), [])
/-- Foundrymark.inTimeShare()F -/
def zm189 : zMt := (({ cls := "Foundrymark", name := "inTimeShare", desc := "()F" } : Jvm.MethodName), cX1_inTimeShare, 6, (Option.some Jvm.ClassFile.FieldType.float), [])
/-- java/lang/ArithmeticException.<init>()V -/
def zm190 : zMt := (({ cls := "java/lang/ArithmeticException", name := "<init>", desc := "()V" } : Jvm.MethodName), cJ25_init_2, 1, (Option.none : Option Jvm.ClassFile.FieldType), [])
/-- FoundrymarkLaw.meanBusy(LFoundrymark;[D)I -/
def zm191 : zMt := (({ cls := "FoundrymarkLaw", name := "meanBusy", desc := "(LFoundrymark;[D)I" } : Jvm.MethodName), cX0_meanBusy, 3, (Option.some Jvm.ClassFile.FieldType.int), [((0 : Nat), (7 : Nat), (10 : Nat), (127 : Nat))])
/-- Foundrymark.meanBusy()D -/
def zm192 : zMt := (({ cls := "Foundrymark", name := "meanBusy", desc := "()D" } : Jvm.MethodName), cX1_meanBusy, 5, (Option.some Jvm.ClassFile.FieldType.double), [])
/-- java/util/ArrayList.isEmpty()Z -/
def zm193 : zMt := (({ cls := "java/util/ArrayList", name := "isEmpty", desc := "()Z" } : Jvm.MethodName), cJ2_isEmpty, 1, (Option.some Jvm.ClassFile.FieldType.boolean), [])
/-- FoundrymarkModel.<init>()V -/
def zm194 : zMt := (({ cls := "FoundrymarkModel", name := "<init>", desc := "()V" } : Jvm.MethodName), cX4_init, 3, (Option.none : Option Jvm.ClassFile.FieldType), [])
/-- FoundrymarkModel.thrown()I -/
def zm195 : zMt := (({ cls := "FoundrymarkModel", name := "thrown", desc := "()I" } : Jvm.MethodName), cX4_thrown, 1, (Option.some Jvm.ClassFile.FieldType.int), [])
/-- FoundrymarkModel.addMachine(IIII)I -/
def zm196 : zMt := (({ cls := "FoundrymarkModel", name := "addMachine", desc := "(IIII)I" } : Jvm.MethodName), cX4_addMachine, 7, (Option.some Jvm.ClassFile.FieldType.int), [])
/-- FoundrymarkModel.in(III)Z -/
def zm197 : zMt := (({ cls := "FoundrymarkModel", name := "in", desc := "(III)Z" } : Jvm.MethodName), cX4_in, 3, (Option.some Jvm.ClassFile.FieldType.boolean), [])
/-- FoundrymarkModel.fails(I)Z -/
def zm198 : zMt := (({ cls := "FoundrymarkModel", name := "fails", desc := "(I)Z" } : Jvm.MethodName), cX4_fails, 2, (Option.some Jvm.ClassFile.FieldType.boolean), [])
/-- FoundrymarkModel$Machine.<init>(IIII)V -/
def zm199 : zMt := (({ cls := "FoundrymarkModel$Machine", name := "<init>", desc := "(IIII)V" } : Jvm.MethodName), cX6_init, 5, (Option.none : Option Jvm.ClassFile.FieldType), [])
/-- FoundrymarkModel.addPart(ZI)I -/
def zm200 : zMt := (({ cls := "FoundrymarkModel", name := "addPart", desc := "(ZI)I" } : Jvm.MethodName), cX4_addPart, 4, (Option.some Jvm.ClassFile.FieldType.int), [])
/-- FoundrymarkModel$Part.<init>(ZI)V -/
def zm201 : zMt := (({ cls := "FoundrymarkModel$Part", name := "<init>", desc := "(ZI)V" } : Jvm.MethodName), cX10_init, 3, (Option.none : Option Jvm.ClassFile.FieldType), [])
/-- FoundrymarkModel.addComponent(IIII)I -/
def zm202 : zMt := (({ cls := "FoundrymarkModel", name := "addComponent", desc := "(IIII)I" } : Jvm.MethodName), cX4_addComponent, 7, (Option.some Jvm.ClassFile.FieldType.int), [])
/-- FoundrymarkModel.isPart(I)Z -/
def zm203 : zMt := (({ cls := "FoundrymarkModel", name := "isPart", desc := "(I)Z" } : Jvm.MethodName), cX4_isPart, 2, (Option.some Jvm.ClassFile.FieldType.boolean), [])
/-- FoundrymarkModel.addOperation(IIII)I -/
def zm204 : zMt := (({ cls := "FoundrymarkModel", name := "addOperation", desc := "(IIII)I" } : Jvm.MethodName), cX4_addOperation, 7, (Option.some Jvm.ClassFile.FieldType.int), [])
/-- FoundrymarkModel.isMachine(I)Z -/
def zm205 : zMt := (({ cls := "FoundrymarkModel", name := "isMachine", desc := "(I)Z" } : Jvm.MethodName), cX4_isMachine, 2, (Option.some Jvm.ClassFile.FieldType.boolean), [])
/-- FoundrymarkModel.receive(IIIII)I -/
def zm206 : zMt := (({ cls := "FoundrymarkModel", name := "receive", desc := "(IIIII)I" } : Jvm.MethodName), cX4_receive, 12, (Option.some Jvm.ClassFile.FieldType.int), [])
/-- FoundrymarkModel.lot(IIJ)LFoundrymarkModel$Lot; -/
def zm207 : zMt := (({ cls := "FoundrymarkModel", name := "lot", desc := "(IIJ)LFoundrymarkModel$Lot;" } : Jvm.MethodName), cX4_lot, 7, (Option.some (Jvm.ClassFile.FieldType.object "FoundrymarkModel$Lot")), [])
/-- FoundrymarkModel$Lot.<init>(IIIJ)V -/
def zm208 : zMt := (({ cls := "FoundrymarkModel$Lot", name := "<init>", desc := "(IIIJ)V" } : Jvm.MethodName), cX17_init, 6, (Option.none : Option Jvm.ClassFile.FieldType), [])
/-- FoundrymarkModel.among(Ljava/util/ArrayList;IZ)I -/
def zm209 : zMt := (({ cls := "FoundrymarkModel", name := "among", desc := "(Ljava/util/ArrayList;IZ)I" } : Jvm.MethodName), cX4_among, 5, (Option.some Jvm.ClassFile.FieldType.int), [])
/-- FoundrymarkModel.rule(I)C -/
def zm210 : zMt := (({ cls := "FoundrymarkModel", name := "rule", desc := "(I)C" } : Jvm.MethodName), cX4_rule, 2, (Option.some Jvm.ClassFile.FieldType.char), [])
/-- FoundrymarkModel.hold(IZ)I -/
def zm211 : zMt := (({ cls := "FoundrymarkModel", name := "hold", desc := "(IZ)I" } : Jvm.MethodName), cX4_hold, 3, (Option.some Jvm.ClassFile.FieldType.int), [])
/-- FoundrymarkModel.failsLot(I)Z -/
def zm212 : zMt := (({ cls := "FoundrymarkModel", name := "failsLot", desc := "(I)Z" } : Jvm.MethodName), cX4_failsLot, 2, (Option.some Jvm.ClassFile.FieldType.boolean), [])
/-- FoundrymarkModel.lose()I -/
def zm213 : zMt := (({ cls := "FoundrymarkModel", name := "lose", desc := "()I" } : Jvm.MethodName), cX4_lose, 7, (Option.some Jvm.ClassFile.FieldType.int), [])
/-- FoundrymarkModel$Lot.isHeld()Z -/
def zm214 : zMt := (({ cls := "FoundrymarkModel$Lot", name := "isHeld", desc := "()Z" } : Jvm.MethodName), cX17_isHeld, 4, (Option.some Jvm.ClassFile.FieldType.boolean), [])
/-- FoundrymarkModel.free(LFoundrymarkModel$Order;)I -/
def zm215 : zMt := (({ cls := "FoundrymarkModel", name := "free", desc := "(LFoundrymarkModel$Order;)I" } : Jvm.MethodName), cX4_free, 4, (Option.some Jvm.ClassFile.FieldType.int), [])
/-- java/lang/Integer.intValue()I -/
def zm216 : zMt := (({ cls := "java/lang/Integer", name := "intValue", desc := "()I" } : Jvm.MethodName), cJ24_intValue, 1, (Option.some Jvm.ClassFile.FieldType.int), [])
/-- FoundrymarkModel.isHeld(I)Z -/
def zm217 : zMt := (({ cls := "FoundrymarkModel", name := "isHeld", desc := "(I)Z" } : Jvm.MethodName), cX4_isHeld, 2, (Option.some Jvm.ClassFile.FieldType.boolean), [])
/-- FoundrymarkModel.setChart(III)I -/
def zm218 : zMt := (({ cls := "FoundrymarkModel", name := "setChart", desc := "(III)I" } : Jvm.MethodName), cX4_setChart, 5, (Option.some Jvm.ClassFile.FieldType.int), [])
/-- FoundrymarkModel.measure(II)Z -/
def zm219 : zMt := (({ cls := "FoundrymarkModel", name := "measure", desc := "(II)Z" } : Jvm.MethodName), cX4_measure, 8, (Option.some Jvm.ClassFile.FieldType.boolean), [])
/-- FoundrymarkModel.lots()I -/
def zm220 : zMt := (({ cls := "FoundrymarkModel", name := "lots", desc := "()I" } : Jvm.MethodName), cX4_lots, 1, (Option.some Jvm.ClassFile.FieldType.int), [])
/-- FoundrymarkModel.partOf(I)I -/
def zm221 : zMt := (({ cls := "FoundrymarkModel", name := "partOf", desc := "(I)I" } : Jvm.MethodName), cX4_partOf, 2, (Option.some Jvm.ClassFile.FieldType.int), [])
/-- FoundrymarkModel.rest(I)I -/
def zm222 : zMt := (({ cls := "FoundrymarkModel", name := "rest", desc := "(I)I" } : Jvm.MethodName), cX4_rest, 2, (Option.some Jvm.ClassFile.FieldType.int), [])
/-- FoundrymarkModel.reserved(I)I -/
def zm223 : zMt := (({ cls := "FoundrymarkModel", name := "reserved", desc := "(I)I" } : Jvm.MethodName), cX4_reserved, 2, (Option.some Jvm.ClassFile.FieldType.int), [])
/-- FoundrymarkModel.costOf(I)J -/
def zm224 : zMt := (({ cls := "FoundrymarkModel", name := "costOf", desc := "(I)J" } : Jvm.MethodName), cX4_costOf, 2, (Option.some Jvm.ClassFile.FieldType.long), [])
/-- FoundrymarkModel.order(IIII)I -/
def zm225 : zMt := (({ cls := "FoundrymarkModel", name := "order", desc := "(IIII)I" } : Jvm.MethodName), cX4_order, 7, (Option.some Jvm.ClassFile.FieldType.int), [])
/-- FoundrymarkModel$Order.<init>(IIIII)V -/
def zm226 : zMt := (({ cls := "FoundrymarkModel$Order", name := "<init>", desc := "(IIIII)V" } : Jvm.MethodName), cX20_init, 6, (Option.none : Option Jvm.ClassFile.FieldType), [])
/-- FoundrymarkModel.promise(I)Z -/
def zm227 : zMt := (({ cls := "FoundrymarkModel", name := "promise", desc := "(I)Z" } : Jvm.MethodName), cX4_promise, 3, (Option.some Jvm.ClassFile.FieldType.boolean), [])
/-- FoundrymarkModel.failsOrder(I)Z -/
def zm228 : zMt := (({ cls := "FoundrymarkModel", name := "failsOrder", desc := "(I)Z" } : Jvm.MethodName), cX4_failsOrder, 2, (Option.some Jvm.ClassFile.FieldType.boolean), [])
/-- FoundrymarkModel.reserve(LFoundrymarkModel$Order;)Z -/
def zm229 : zMt := (({ cls := "FoundrymarkModel", name := "reserve", desc := "(LFoundrymarkModel$Order;)Z" } : Jvm.MethodName), cX4_reserve, 9, (Option.some Jvm.ClassFile.FieldType.boolean), [])
/-- java/lang/Integer.valueOf(I)Ljava/lang/Integer; -/
def zm230 : zMt := (({ cls := "java/lang/Integer", name := "valueOf", desc := "(I)Ljava/lang/Integer;" } : Jvm.MethodName), cJ24_valueOf, 1, (Option.some (Jvm.ClassFile.FieldType.object "java/lang/Integer")), [])
/-- java/lang/Integer.<init>(I)V -/
def zm231 : zMt := (({ cls := "java/lang/Integer", name := "<init>", desc := "(I)V" } : Jvm.MethodName), cJ24_init, 2, (Option.none : Option Jvm.ClassFile.FieldType), [])
/-- java/lang/Number.<init>()V -/
def zm232 : zMt := (({ cls := "java/lang/Number", name := "<init>", desc := "()V" } : Jvm.MethodName), cJ23_init, 1, (Option.none : Option Jvm.ClassFile.FieldType), [])
/-- FoundrymarkModel.withdraw(I)I -/
def zm233 : zMt := (({ cls := "FoundrymarkModel", name := "withdraw", desc := "(I)I" } : Jvm.MethodName), cX4_withdraw, 2, (Option.some Jvm.ClassFile.FieldType.int), [])
/-- FoundrymarkModel.release(I)Z -/
def zm234 : zMt := (({ cls := "FoundrymarkModel", name := "release", desc := "(I)Z" } : Jvm.MethodName), cX4_release, 4, (Option.some Jvm.ClassFile.FieldType.boolean), [])
/-- FoundrymarkModel$Order.isReleased()Z -/
def zm235 : zMt := (({ cls := "FoundrymarkModel$Order", name := "isReleased", desc := "()Z" } : Jvm.MethodName), cX20_isReleased, 1, (Option.some Jvm.ClassFile.FieldType.boolean), [])
/-- FoundrymarkModel.take(LFoundrymarkModel$Lot;I)J -/
def zm236 : zMt := (({ cls := "FoundrymarkModel", name := "take", desc := "(LFoundrymarkModel$Lot;I)J" } : Jvm.MethodName), cX4_take, 4, (Option.some Jvm.ClassFile.FieldType.long), [])
/-- FoundrymarkModel.goOn(LFoundrymarkModel$Order;)V -/
def zm237 : zMt := (({ cls := "FoundrymarkModel", name := "goOn", desc := "(LFoundrymarkModel$Order;)V" } : Jvm.MethodName), cX4_goOn, 4, (Option.none : Option Jvm.ClassFile.FieldType), [])
/-- FoundrymarkModel.jobs(I)I -/
def zm238 : zMt := (({ cls := "FoundrymarkModel", name := "jobs", desc := "(I)I" } : Jvm.MethodName), cX4_jobs, 2, (Option.some Jvm.ClassFile.FieldType.int), [])
/-- FoundrymarkModel.waits(I)I -/
def zm239 : zMt := (({ cls := "FoundrymarkModel", name := "waits", desc := "(I)I" } : Jvm.MethodName), cX4_waits, 5, (Option.some Jvm.ClassFile.FieldType.int), [])
/-- FoundrymarkModel.begin()V -/
def zm240 : zMt := (({ cls := "FoundrymarkModel", name := "begin", desc := "()V" } : Jvm.MethodName), cX4_begin, 7, (Option.none : Option Jvm.ClassFile.FieldType), [])
/-- FoundrymarkModel.scrap(II)I -/
def zm241 : zMt := (({ cls := "FoundrymarkModel", name := "scrap", desc := "(II)I" } : Jvm.MethodName), cX4_scrap, 4, (Option.some Jvm.ClassFile.FieldType.int), [])
/-- FoundrymarkModel.advance(I)I -/
def zm242 : zMt := (({ cls := "FoundrymarkModel", name := "advance", desc := "(I)I" } : Jvm.MethodName), cX4_advance, 3, (Option.some Jvm.ClassFile.FieldType.int), [])
/-- FoundrymarkModel.end()V -/
def zm243 : zMt := (({ cls := "FoundrymarkModel", name := "end", desc := "()V" } : Jvm.MethodName), cX4_end, 4, (Option.none : Option Jvm.ClassFile.FieldType), [])
/-- FoundrymarkModel.deliver(I)Z -/
def zm244 : zMt := (({ cls := "FoundrymarkModel", name := "deliver", desc := "(I)Z" } : Jvm.MethodName), cX4_deliver, 10, (Option.some Jvm.ClassFile.FieldType.boolean), [])
/-- FoundrymarkModel.sources(LFoundrymarkModel$Order;)Ljava/util/ArrayList; -/
def zm245 : zMt := (({ cls := "FoundrymarkModel", name := "sources", desc := "(LFoundrymarkModel$Order;)Ljava/util/ArrayList;" } : Jvm.MethodName), cX4_sources, 6, (Option.some (Jvm.ClassFile.FieldType.object "java/util/ArrayList")), [])
/-- FoundrymarkModel.stateOf(I)C -/
def zm246 : zMt := (({ cls := "FoundrymarkModel", name := "stateOf", desc := "(I)C" } : Jvm.MethodName), cX4_stateOf, 2, (Option.some Jvm.ClassFile.FieldType.char), [])
/-- FoundrymarkModel.lotOf(I)I -/
def zm247 : zMt := (({ cls := "FoundrymarkModel", name := "lotOf", desc := "(I)I" } : Jvm.MethodName), cX4_lotOf, 2, (Option.some Jvm.ClassFile.FieldType.int), [])
/-- FoundrymarkModel.finishedAt(I)I -/
def zm248 : zMt := (({ cls := "FoundrymarkModel", name := "finishedAt", desc := "(I)I" } : Jvm.MethodName), cX4_finishedAt, 2, (Option.some Jvm.ClassFile.FieldType.int), [])
/-- FoundrymarkModel.machineIs(I)C -/
def zm249 : zMt := (({ cls := "FoundrymarkModel", name := "machineIs", desc := "(I)C" } : Jvm.MethodName), cX4_machineIs, 2, (Option.some Jvm.ClassFile.FieldType.char), [])
/-- FoundrymarkModel.failsMachine(I)Z -/
def zm250 : zMt := (({ cls := "FoundrymarkModel", name := "failsMachine", desc := "(I)Z" } : Jvm.MethodName), cX4_failsMachine, 2, (Option.some Jvm.ClassFile.FieldType.boolean), [])
/-- FoundrymarkModel.wear(I)I -/
def zm251 : zMt := (({ cls := "FoundrymarkModel", name := "wear", desc := "(I)I" } : Jvm.MethodName), cX4_wear, 2, (Option.some Jvm.ClassFile.FieldType.int), [])
/-- FoundrymarkModel.waiting(I)I -/
def zm252 : zMt := (({ cls := "FoundrymarkModel", name := "waiting", desc := "(I)I" } : Jvm.MethodName), cX4_waiting, 2, (Option.some Jvm.ClassFile.FieldType.int), [])
/-- FoundrymarkModel.isIn(II)Z -/
def zm253 : zMt := (({ cls := "FoundrymarkModel", name := "isIn", desc := "(II)Z" } : Jvm.MethodName), cX4_isIn, 4, (Option.some Jvm.ClassFile.FieldType.boolean), [])
/-- FoundrymarkModel$Lot.has(LFoundrymarkModel$Lot;)Z -/
def zm254 : zMt := (({ cls := "FoundrymarkModel$Lot", name := "has", desc := "(LFoundrymarkModel$Lot;)Z" } : Jvm.MethodName), cX17_has, 5, (Option.some Jvm.ClassFile.FieldType.boolean), [])
/-- FoundrymarkModel.touched(I)I -/
def zm255 : zMt := (({ cls := "FoundrymarkModel", name := "touched", desc := "(I)I" } : Jvm.MethodName), cX4_touched, 5, (Option.some Jvm.ClassFile.FieldType.int), [])
/-- FoundrymarkModel.isIn(LFoundrymarkModel$Lot;LFoundrymarkModel$Order;)Z -/
def zm256 : zMt := (({ cls := "FoundrymarkModel", name := "isIn", desc := "(LFoundrymarkModel$Lot;LFoundrymarkModel$Order;)Z" } : Jvm.MethodName), cX4_isIn_2, 5, (Option.some Jvm.ClassFile.FieldType.boolean), [])
/-- FoundrymarkModel.lotsIn(I)I -/
def zm257 : zMt := (({ cls := "FoundrymarkModel", name := "lotsIn", desc := "(I)I" } : Jvm.MethodName), cX4_lotsIn, 5, (Option.some Jvm.ClassFile.FieldType.int), [])
/-- FoundrymarkModel.deliveredCost(I)J -/
def zm258 : zMt := (({ cls := "FoundrymarkModel", name := "deliveredCost", desc := "(I)J" } : Jvm.MethodName), cX4_deliveredCost, 2, (Option.some Jvm.ClassFile.FieldType.long), [])
/-- FoundrymarkModel.inTimeShare()F -/
def zm259 : zMt := (({ cls := "FoundrymarkModel", name := "inTimeShare", desc := "()F" } : Jvm.MethodName), cX4_inTimeShare, 5, (Option.some Jvm.ClassFile.FieldType.float), [])
/-- FoundrymarkModel.meanBusy()D -/
def zm260 : zMt := (({ cls := "FoundrymarkModel", name := "meanBusy", desc := "()D" } : Jvm.MethodName), cX4_meanBusy, 4, (Option.some Jvm.ClassFile.FieldType.double), [])
/-- FoundrymarkModel.isSound()Z -/
def zm261 : zMt := (({ cls := "FoundrymarkModel", name := "isSound", desc := "()Z" } : Jvm.MethodName), cX4_isSound, 1, (Option.some Jvm.ClassFile.FieldType.boolean), [])
def zML : List zMt := [zm0, zm1, zm2, zm3, zm4, zm5, zm6, zm7, zm8, zm9, zm10, zm11, zm12, zm13, zm14, zm15, zm16, zm17, zm18, zm19, zm20, zm21, zm22, zm23, zm24, zm25, zm26, zm27, zm28, zm29, zm30, zm31, zm32, zm33, zm34, zm35, zm36, zm37, zm38, zm39, zm40, zm41, zm42, zm43, zm44, zm45, zm46, zm47, zm48, zm49, zm50, zm51, zm52, zm53, zm54, zm55, zm56, zm57, zm58, zm59, zm60, zm61, zm62, zm63, zm64, zm65, zm66, zm67, zm68, zm69, zm70, zm71, zm72, zm73, zm74, zm75, zm76, zm77, zm78, zm79, zm80, zm81, zm82, zm83, zm84, zm85, zm86, zm87, zm88, zm89, zm90, zm91, zm92, zm93, zm94, zm95, zm96, zm97, zm98, zm99, zm100, zm101, zm102, zm103, zm104, zm105, zm106, zm107, zm108, zm109, zm110, zm111, zm112, zm113, zm114, zm115, zm116, zm117, zm118, zm119, zm120, zm121, zm122, zm123, zm124, zm125, zm126, zm127, zm128, zm129, zm130, zm131, zm132, zm133, zm134, zm135, zm136, zm137, zm138, zm139, zm140, zm141, zm142, zm143, zm144, zm145, zm146, zm147, zm148, zm149, zm150, zm151, zm152, zm153, zm154, zm155, zm156, zm157, zm158, zm159, zm160, zm161, zm162, zm163, zm164, zm165, zm166, zm167, zm168, zm169, zm170, zm171, zm172, zm173, zm174, zm175, zm176, zm177, zm178, zm179, zm180, zm181, zm182, zm183, zm184, zm185, zm186, zm187, zm188, zm189, zm190, zm191, zm192, zm193, zm194, zm195, zm196, zm197, zm198, zm199, zm200, zm201, zm202, zm203, zm204, zm205, zm206, zm207, zm208, zm209, zm210, zm211, zm212, zm213, zm214, zm215, zm216, zm217, zm218, zm219, zm220, zm221, zm222, zm223, zm224, zm225, zm226, zm227, zm228, zm229, zm230, zm231, zm232, zm233, zm234, zm235, zm236, zm237, zm238, zm239, zm240, zm241, zm242, zm243, zm244, zm245, zm246, zm247, zm248, zm249, zm250, zm251, zm252, zm253, zm254, zm255, zm256, zm257, zm258, zm259, zm260, zm261]
/-- what the tables say of a method: with handlers or without -/
def zM_good (μ : zMt) : Prop := plainName μ.1.cls = true ∧ (μ.1.cls ≠ "java/lang/invoke/MethodHandle" ∧ μ.1.cls ≠ "java/lang/invoke/VarHandle") ∧ ((μ.2.2.2.2 = [] ∧ Cond.code μ.1 μ.2.1 μ.2.2.1 μ.2.2.2.1 ∈ lw_all) ∨ (μ.2.2.2.2 ≠ [] ∧ Cond.codeWith μ.1 μ.2.1 μ.2.2.1 μ.2.2.2.1 μ.2.2.2.2 ∈ lw_all))
theorem zm0_g : zM_good zm0 := ⟨by decide +kernel, ⟨by decide +kernel, by decide +kernel⟩, Or.inl ⟨rfl, q94⟩⟩
theorem zm1_g : zM_good zm1 := ⟨by decide +kernel, ⟨by decide +kernel, by decide +kernel⟩, Or.inl ⟨rfl, q102⟩⟩
theorem zm2_g : zM_good zm2 := ⟨by decide +kernel, ⟨by decide +kernel, by decide +kernel⟩, Or.inl ⟨rfl, q105⟩⟩
theorem zm3_g : zM_good zm3 := ⟨by decide +kernel, ⟨by decide +kernel, by decide +kernel⟩, Or.inl ⟨rfl, q108⟩⟩
theorem zm4_g : zM_good zm4 := ⟨by decide +kernel, ⟨by decide +kernel, by decide +kernel⟩, Or.inl ⟨rfl, q132⟩⟩
theorem zm5_g : zM_good zm5 := ⟨by decide +kernel, ⟨by decide +kernel, by decide +kernel⟩, Or.inl ⟨rfl, q180⟩⟩
theorem zm6_g : zM_good zm6 := ⟨by decide +kernel, ⟨by decide +kernel, by decide +kernel⟩, Or.inl ⟨rfl, q184⟩⟩
theorem zm7_g : zM_good zm7 := ⟨by decide +kernel, ⟨by decide +kernel, by decide +kernel⟩, Or.inl ⟨rfl, q188⟩⟩
theorem zm8_g : zM_good zm8 := ⟨by decide +kernel, ⟨by decide +kernel, by decide +kernel⟩, Or.inl ⟨rfl, q192⟩⟩
theorem zm9_g : zM_good zm9 := ⟨by decide +kernel, ⟨by decide +kernel, by decide +kernel⟩, Or.inl ⟨rfl, q197⟩⟩
theorem zm10_g : zM_good zm10 := ⟨by decide +kernel, ⟨by decide +kernel, by decide +kernel⟩, Or.inl ⟨rfl, q221⟩⟩
theorem zm11_g : zM_good zm11 := ⟨by decide +kernel, ⟨by decide +kernel, by decide +kernel⟩, Or.inl ⟨rfl, q230⟩⟩
theorem zm12_g : zM_good zm12 := ⟨by decide +kernel, ⟨by decide +kernel, by decide +kernel⟩, Or.inl ⟨rfl, q234⟩⟩
theorem zm13_g : zM_good zm13 := ⟨by decide +kernel, ⟨by decide +kernel, by decide +kernel⟩, Or.inl ⟨rfl, q259⟩⟩
theorem zm14_g : zM_good zm14 := ⟨by decide +kernel, ⟨by decide +kernel, by decide +kernel⟩, Or.inl ⟨rfl, q283⟩⟩
theorem zm15_g : zM_good zm15 := ⟨by decide +kernel, ⟨by decide +kernel, by decide +kernel⟩, Or.inl ⟨rfl, q286⟩⟩
theorem zm16_g : zM_good zm16 := ⟨by decide +kernel, ⟨by decide +kernel, by decide +kernel⟩, Or.inl ⟨rfl, q289⟩⟩
theorem zm17_g : zM_good zm17 := ⟨by decide +kernel, ⟨by decide +kernel, by decide +kernel⟩, Or.inl ⟨rfl, q308⟩⟩
theorem zm18_g : zM_good zm18 := ⟨by decide +kernel, ⟨by decide +kernel, by decide +kernel⟩, Or.inl ⟨rfl, q312⟩⟩
theorem zm19_g : zM_good zm19 := ⟨by decide +kernel, ⟨by decide +kernel, by decide +kernel⟩, Or.inl ⟨rfl, q316⟩⟩
theorem zm20_g : zM_good zm20 := ⟨by decide +kernel, ⟨by decide +kernel, by decide +kernel⟩, Or.inl ⟨rfl, q320⟩⟩
theorem zm21_g : zM_good zm21 := ⟨by decide +kernel, ⟨by decide +kernel, by decide +kernel⟩, Or.inl ⟨rfl, q323⟩⟩
theorem zm22_g : zM_good zm22 := ⟨by decide +kernel, ⟨by decide +kernel, by decide +kernel⟩, Or.inl ⟨rfl, q326⟩⟩
theorem zm23_g : zM_good zm23 := ⟨by decide +kernel, ⟨by decide +kernel, by decide +kernel⟩, Or.inl ⟨rfl, q338⟩⟩
theorem zm24_g : zM_good zm24 := ⟨by decide +kernel, ⟨by decide +kernel, by decide +kernel⟩, Or.inl ⟨rfl, q346⟩⟩
theorem zm25_g : zM_good zm25 := ⟨by decide +kernel, ⟨by decide +kernel, by decide +kernel⟩, Or.inl ⟨rfl, q349⟩⟩
theorem zm26_g : zM_good zm26 := ⟨by decide +kernel, ⟨by decide +kernel, by decide +kernel⟩, Or.inl ⟨rfl, q352⟩⟩
theorem zm27_g : zM_good zm27 := ⟨by decide +kernel, ⟨by decide +kernel, by decide +kernel⟩, Or.inl ⟨rfl, q356⟩⟩
theorem zm28_g : zM_good zm28 := ⟨by decide +kernel, ⟨by decide +kernel, by decide +kernel⟩, Or.inl ⟨rfl, q360⟩⟩
theorem zm29_g : zM_good zm29 := ⟨by decide +kernel, ⟨by decide +kernel, by decide +kernel⟩, Or.inl ⟨rfl, q364⟩⟩
theorem zm30_g : zM_good zm30 := ⟨by decide +kernel, ⟨by decide +kernel, by decide +kernel⟩, Or.inl ⟨rfl, q375⟩⟩
theorem zm31_g : zM_good zm31 := ⟨by decide +kernel, ⟨by decide +kernel, by decide +kernel⟩, Or.inl ⟨rfl, q381⟩⟩
theorem zm32_g : zM_good zm32 := ⟨by decide +kernel, ⟨by decide +kernel, by decide +kernel⟩, Or.inl ⟨rfl, q386⟩⟩
theorem zm33_g : zM_good zm33 := ⟨by decide +kernel, ⟨by decide +kernel, by decide +kernel⟩, Or.inl ⟨rfl, q390⟩⟩
theorem zm34_g : zM_good zm34 := ⟨by decide +kernel, ⟨by decide +kernel, by decide +kernel⟩, Or.inl ⟨rfl, q397⟩⟩
theorem zm35_g : zM_good zm35 := ⟨by decide +kernel, ⟨by decide +kernel, by decide +kernel⟩, Or.inr ⟨by simp [zm35], q401⟩⟩
theorem zm36_g : zM_good zm36 := ⟨by decide +kernel, ⟨by decide +kernel, by decide +kernel⟩, Or.inl ⟨rfl, q407⟩⟩
theorem zm37_g : zM_good zm37 := ⟨by decide +kernel, ⟨by decide +kernel, by decide +kernel⟩, Or.inl ⟨rfl, q410⟩⟩
theorem zm38_g : zM_good zm38 := ⟨by decide +kernel, ⟨by decide +kernel, by decide +kernel⟩, Or.inl ⟨rfl, q422⟩⟩
theorem zm39_g : zM_good zm39 := ⟨by decide +kernel, ⟨by decide +kernel, by decide +kernel⟩, Or.inl ⟨rfl, q428⟩⟩
theorem zm40_g : zM_good zm40 := ⟨by decide +kernel, ⟨by decide +kernel, by decide +kernel⟩, Or.inl ⟨rfl, q440⟩⟩
theorem zm41_g : zM_good zm41 := ⟨by decide +kernel, ⟨by decide +kernel, by decide +kernel⟩, Or.inl ⟨rfl, q448⟩⟩
theorem zm42_g : zM_good zm42 := ⟨by decide +kernel, ⟨by decide +kernel, by decide +kernel⟩, Or.inl ⟨rfl, q454⟩⟩
theorem zm43_g : zM_good zm43 := ⟨by decide +kernel, ⟨by decide +kernel, by decide +kernel⟩, Or.inl ⟨rfl, q457⟩⟩
theorem zm44_g : zM_good zm44 := ⟨by decide +kernel, ⟨by decide +kernel, by decide +kernel⟩, Or.inl ⟨rfl, q460⟩⟩
theorem zm45_g : zM_good zm45 := ⟨by decide +kernel, ⟨by decide +kernel, by decide +kernel⟩, Or.inl ⟨rfl, q528⟩⟩
theorem zm46_g : zM_good zm46 := ⟨by decide +kernel, ⟨by decide +kernel, by decide +kernel⟩, Or.inl ⟨rfl, q532⟩⟩
theorem zm47_g : zM_good zm47 := ⟨by decide +kernel, ⟨by decide +kernel, by decide +kernel⟩, Or.inl ⟨rfl, q536⟩⟩
theorem zm48_g : zM_good zm48 := ⟨by decide +kernel, ⟨by decide +kernel, by decide +kernel⟩, Or.inl ⟨rfl, q540⟩⟩
theorem zm49_g : zM_good zm49 := ⟨by decide +kernel, ⟨by decide +kernel, by decide +kernel⟩, Or.inl ⟨rfl, q543⟩⟩
theorem zm50_g : zM_good zm50 := ⟨by decide +kernel, ⟨by decide +kernel, by decide +kernel⟩, Or.inl ⟨rfl, q550⟩⟩
theorem zm51_g : zM_good zm51 := ⟨by decide +kernel, ⟨by decide +kernel, by decide +kernel⟩, Or.inl ⟨rfl, q553⟩⟩
theorem zm52_g : zM_good zm52 := ⟨by decide +kernel, ⟨by decide +kernel, by decide +kernel⟩, Or.inl ⟨rfl, q592⟩⟩
theorem zm53_g : zM_good zm53 := ⟨by decide +kernel, ⟨by decide +kernel, by decide +kernel⟩, Or.inr ⟨by simp [zm53], q605⟩⟩
theorem zm54_g : zM_good zm54 := ⟨by decide +kernel, ⟨by decide +kernel, by decide +kernel⟩, Or.inl ⟨rfl, q609⟩⟩
theorem zm55_g : zM_good zm55 := ⟨by decide +kernel, ⟨by decide +kernel, by decide +kernel⟩, Or.inl ⟨rfl, q614⟩⟩
theorem zm56_g : zM_good zm56 := ⟨by decide +kernel, ⟨by decide +kernel, by decide +kernel⟩, Or.inl ⟨rfl, q617⟩⟩
theorem zm57_g : zM_good zm57 := ⟨by decide +kernel, ⟨by decide +kernel, by decide +kernel⟩, Or.inl ⟨rfl, q662⟩⟩
theorem zm58_g : zM_good zm58 := ⟨by decide +kernel, ⟨by decide +kernel, by decide +kernel⟩, Or.inr ⟨by simp [zm58], q674⟩⟩
theorem zm59_g : zM_good zm59 := ⟨by decide +kernel, ⟨by decide +kernel, by decide +kernel⟩, Or.inl ⟨rfl, q678⟩⟩
theorem zm60_g : zM_good zm60 := ⟨by decide +kernel, ⟨by decide +kernel, by decide +kernel⟩, Or.inl ⟨rfl, q681⟩⟩
theorem zm61_g : zM_good zm61 := ⟨by decide +kernel, ⟨by decide +kernel, by decide +kernel⟩, Or.inl ⟨rfl, q684⟩⟩
theorem zm62_g : zM_good zm62 := ⟨by decide +kernel, ⟨by decide +kernel, by decide +kernel⟩, Or.inl ⟨rfl, q687⟩⟩
theorem zm63_g : zM_good zm63 := ⟨by decide +kernel, ⟨by decide +kernel, by decide +kernel⟩, Or.inl ⟨rfl, q690⟩⟩
theorem zm64_g : zM_good zm64 := ⟨by decide +kernel, ⟨by decide +kernel, by decide +kernel⟩, Or.inl ⟨rfl, q712⟩⟩
theorem zm65_g : zM_good zm65 := ⟨by decide +kernel, ⟨by decide +kernel, by decide +kernel⟩, Or.inl ⟨rfl, q716⟩⟩
theorem zm66_g : zM_good zm66 := ⟨by decide +kernel, ⟨by decide +kernel, by decide +kernel⟩, Or.inl ⟨rfl, q720⟩⟩
theorem zm67_g : zM_good zm67 := ⟨by decide +kernel, ⟨by decide +kernel, by decide +kernel⟩, Or.inl ⟨rfl, q732⟩⟩
theorem zm68_g : zM_good zm68 := ⟨by decide +kernel, ⟨by decide +kernel, by decide +kernel⟩, Or.inl ⟨rfl, q740⟩⟩
theorem zm69_g : zM_good zm69 := ⟨by decide +kernel, ⟨by decide +kernel, by decide +kernel⟩, Or.inr ⟨by simp [zm69], q756⟩⟩
theorem zm70_g : zM_good zm70 := ⟨by decide +kernel, ⟨by decide +kernel, by decide +kernel⟩, Or.inl ⟨rfl, q760⟩⟩
theorem zm71_g : zM_good zm71 := ⟨by decide +kernel, ⟨by decide +kernel, by decide +kernel⟩, Or.inl ⟨rfl, q764⟩⟩
theorem zm72_g : zM_good zm72 := ⟨by decide +kernel, ⟨by decide +kernel, by decide +kernel⟩, Or.inl ⟨rfl, q769⟩⟩
theorem zm73_g : zM_good zm73 := ⟨by decide +kernel, ⟨by decide +kernel, by decide +kernel⟩, Or.inr ⟨by simp [zm73], q786⟩⟩
theorem zm74_g : zM_good zm74 := ⟨by decide +kernel, ⟨by decide +kernel, by decide +kernel⟩, Or.inl ⟨rfl, q790⟩⟩
theorem zm75_g : zM_good zm75 := ⟨by decide +kernel, ⟨by decide +kernel, by decide +kernel⟩, Or.inl ⟨rfl, q794⟩⟩
theorem zm76_g : zM_good zm76 := ⟨by decide +kernel, ⟨by decide +kernel, by decide +kernel⟩, Or.inl ⟨rfl, q798⟩⟩
theorem zm77_g : zM_good zm77 := ⟨by decide +kernel, ⟨by decide +kernel, by decide +kernel⟩, Or.inl ⟨rfl, q835⟩⟩
theorem zm78_g : zM_good zm78 := ⟨by decide +kernel, ⟨by decide +kernel, by decide +kernel⟩, Or.inl ⟨rfl, q838⟩⟩
theorem zm79_g : zM_good zm79 := ⟨by decide +kernel, ⟨by decide +kernel, by decide +kernel⟩, Or.inl ⟨rfl, q849⟩⟩
theorem zm80_g : zM_good zm80 := ⟨by decide +kernel, ⟨by decide +kernel, by decide +kernel⟩, Or.inl ⟨rfl, q857⟩⟩
theorem zm81_g : zM_good zm81 := ⟨by decide +kernel, ⟨by decide +kernel, by decide +kernel⟩, Or.inl ⟨rfl, q863⟩⟩
theorem zm82_g : zM_good zm82 := ⟨by decide +kernel, ⟨by decide +kernel, by decide +kernel⟩, Or.inl ⟨rfl, q874⟩⟩
theorem zm83_g : zM_good zm83 := ⟨by decide +kernel, ⟨by decide +kernel, by decide +kernel⟩, Or.inl ⟨rfl, q880⟩⟩
theorem zm84_g : zM_good zm84 := ⟨by decide +kernel, ⟨by decide +kernel, by decide +kernel⟩, Or.inl ⟨rfl, q887⟩⟩
theorem zm85_g : zM_good zm85 := ⟨by decide +kernel, ⟨by decide +kernel, by decide +kernel⟩, Or.inr ⟨by simp [zm85], q890⟩⟩
theorem zm86_g : zM_good zm86 := ⟨by decide +kernel, ⟨by decide +kernel, by decide +kernel⟩, Or.inl ⟨rfl, q894⟩⟩
theorem zm87_g : zM_good zm87 := ⟨by decide +kernel, ⟨by decide +kernel, by decide +kernel⟩, Or.inr ⟨by simp [zm87], q897⟩⟩
theorem zm88_g : zM_good zm88 := ⟨by decide +kernel, ⟨by decide +kernel, by decide +kernel⟩, Or.inl ⟨rfl, q901⟩⟩
theorem zm89_g : zM_good zm89 := ⟨by decide +kernel, ⟨by decide +kernel, by decide +kernel⟩, Or.inl ⟨rfl, q905⟩⟩
theorem zm90_g : zM_good zm90 := ⟨by decide +kernel, ⟨by decide +kernel, by decide +kernel⟩, Or.inl ⟨rfl, q909⟩⟩
theorem zm91_g : zM_good zm91 := ⟨by decide +kernel, ⟨by decide +kernel, by decide +kernel⟩, Or.inr ⟨by simp [zm91], q915⟩⟩
theorem zm92_g : zM_good zm92 := ⟨by decide +kernel, ⟨by decide +kernel, by decide +kernel⟩, Or.inl ⟨rfl, q919⟩⟩
theorem zm93_g : zM_good zm93 := ⟨by decide +kernel, ⟨by decide +kernel, by decide +kernel⟩, Or.inr ⟨by simp [zm93], q922⟩⟩
theorem zm94_g : zM_good zm94 := ⟨by decide +kernel, ⟨by decide +kernel, by decide +kernel⟩, Or.inl ⟨rfl, q926⟩⟩
theorem zm95_g : zM_good zm95 := ⟨by decide +kernel, ⟨by decide +kernel, by decide +kernel⟩, Or.inr ⟨by simp [zm95], q929⟩⟩
theorem zm96_g : zM_good zm96 := ⟨by decide +kernel, ⟨by decide +kernel, by decide +kernel⟩, Or.inl ⟨rfl, q933⟩⟩
theorem zm97_g : zM_good zm97 := ⟨by decide +kernel, ⟨by decide +kernel, by decide +kernel⟩, Or.inl ⟨rfl, q939⟩⟩
theorem zm98_g : zM_good zm98 := ⟨by decide +kernel, ⟨by decide +kernel, by decide +kernel⟩, Or.inr ⟨by simp [zm98], q945⟩⟩
theorem zm99_g : zM_good zm99 := ⟨by decide +kernel, ⟨by decide +kernel, by decide +kernel⟩, Or.inl ⟨rfl, q949⟩⟩
theorem zm100_g : zM_good zm100 := ⟨by decide +kernel, ⟨by decide +kernel, by decide +kernel⟩, Or.inr ⟨by simp [zm100], q952⟩⟩
theorem zm101_g : zM_good zm101 := ⟨by decide +kernel, ⟨by decide +kernel, by decide +kernel⟩, Or.inl ⟨rfl, q956⟩⟩
theorem zm102_g : zM_good zm102 := ⟨by decide +kernel, ⟨by decide +kernel, by decide +kernel⟩, Or.inr ⟨by simp [zm102], q959⟩⟩
theorem zm103_g : zM_good zm103 := ⟨by decide +kernel, ⟨by decide +kernel, by decide +kernel⟩, Or.inl ⟨rfl, q963⟩⟩
theorem zm104_g : zM_good zm104 := ⟨by decide +kernel, ⟨by decide +kernel, by decide +kernel⟩, Or.inr ⟨by simp [zm104], q966⟩⟩
theorem zm105_g : zM_good zm105 := ⟨by decide +kernel, ⟨by decide +kernel, by decide +kernel⟩, Or.inl ⟨rfl, q970⟩⟩
theorem zm106_g : zM_good zm106 := ⟨by decide +kernel, ⟨by decide +kernel, by decide +kernel⟩, Or.inr ⟨by simp [zm106], q973⟩⟩
theorem zm107_g : zM_good zm107 := ⟨by decide +kernel, ⟨by decide +kernel, by decide +kernel⟩, Or.inl ⟨rfl, q977⟩⟩
theorem zm108_g : zM_good zm108 := ⟨by decide +kernel, ⟨by decide +kernel, by decide +kernel⟩, Or.inl ⟨rfl, q981⟩⟩
theorem zm109_g : zM_good zm109 := ⟨by decide +kernel, ⟨by decide +kernel, by decide +kernel⟩, Or.inr ⟨by simp [zm109], q1038⟩⟩
theorem zm110_g : zM_good zm110 := ⟨by decide +kernel, ⟨by decide +kernel, by decide +kernel⟩, Or.inl ⟨rfl, q1042⟩⟩
theorem zm111_g : zM_good zm111 := ⟨by decide +kernel, ⟨by decide +kernel, by decide +kernel⟩, Or.inl ⟨rfl, q1046⟩⟩
theorem zm112_g : zM_good zm112 := ⟨by decide +kernel, ⟨by decide +kernel, by decide +kernel⟩, Or.inr ⟨by simp [zm112], q1050⟩⟩
theorem zm113_g : zM_good zm113 := ⟨by decide +kernel, ⟨by decide +kernel, by decide +kernel⟩, Or.inl ⟨rfl, q1055⟩⟩
theorem zm114_g : zM_good zm114 := ⟨by decide +kernel, ⟨by decide +kernel, by decide +kernel⟩, Or.inl ⟨rfl, q1059⟩⟩
theorem zm115_g : zM_good zm115 := ⟨by decide +kernel, ⟨by decide +kernel, by decide +kernel⟩, Or.inl ⟨rfl, q1064⟩⟩
theorem zm116_g : zM_good zm116 := ⟨by decide +kernel, ⟨by decide +kernel, by decide +kernel⟩, Or.inl ⟨rfl, q1091⟩⟩
theorem zm117_g : zM_good zm117 := ⟨by decide +kernel, ⟨by decide +kernel, by decide +kernel⟩, Or.inl ⟨rfl, q1094⟩⟩
theorem zm118_g : zM_good zm118 := ⟨by decide +kernel, ⟨by decide +kernel, by decide +kernel⟩, Or.inl ⟨rfl, q1097⟩⟩
theorem zm119_g : zM_good zm119 := ⟨by decide +kernel, ⟨by decide +kernel, by decide +kernel⟩, Or.inr ⟨by simp [zm119], q1102⟩⟩
theorem zm120_g : zM_good zm120 := ⟨by decide +kernel, ⟨by decide +kernel, by decide +kernel⟩, Or.inl ⟨rfl, q1106⟩⟩
theorem zm121_g : zM_good zm121 := ⟨by decide +kernel, ⟨by decide +kernel, by decide +kernel⟩, Or.inr ⟨by simp [zm121], q1109⟩⟩
theorem zm122_g : zM_good zm122 := ⟨by decide +kernel, ⟨by decide +kernel, by decide +kernel⟩, Or.inl ⟨rfl, q1113⟩⟩
theorem zm123_g : zM_good zm123 := ⟨by decide +kernel, ⟨by decide +kernel, by decide +kernel⟩, Or.inr ⟨by simp [zm123], q1116⟩⟩
theorem zm124_g : zM_good zm124 := ⟨by decide +kernel, ⟨by decide +kernel, by decide +kernel⟩, Or.inl ⟨rfl, q1120⟩⟩
theorem zm125_g : zM_good zm125 := ⟨by decide +kernel, ⟨by decide +kernel, by decide +kernel⟩, Or.inl ⟨rfl, q1125⟩⟩
theorem zm126_g : zM_good zm126 := ⟨by decide +kernel, ⟨by decide +kernel, by decide +kernel⟩, Or.inl ⟨rfl, q1128⟩⟩
theorem zm127_g : zM_good zm127 := ⟨by decide +kernel, ⟨by decide +kernel, by decide +kernel⟩, Or.inl ⟨rfl, q1133⟩⟩
theorem zm128_g : zM_good zm128 := ⟨by decide +kernel, ⟨by decide +kernel, by decide +kernel⟩, Or.inl ⟨rfl, q1137⟩⟩
theorem zm129_g : zM_good zm129 := ⟨by decide +kernel, ⟨by decide +kernel, by decide +kernel⟩, Or.inl ⟨rfl, q1144⟩⟩
theorem zm130_g : zM_good zm130 := ⟨by decide +kernel, ⟨by decide +kernel, by decide +kernel⟩, Or.inl ⟨rfl, q1148⟩⟩
theorem zm131_g : zM_good zm131 := ⟨by decide +kernel, ⟨by decide +kernel, by decide +kernel⟩, Or.inl ⟨rfl, q1152⟩⟩
theorem zm132_g : zM_good zm132 := ⟨by decide +kernel, ⟨by decide +kernel, by decide +kernel⟩, Or.inl ⟨rfl, q1156⟩⟩
theorem zm133_g : zM_good zm133 := ⟨by decide +kernel, ⟨by decide +kernel, by decide +kernel⟩, Or.inl ⟨rfl, q1160⟩⟩
theorem zm134_g : zM_good zm134 := ⟨by decide +kernel, ⟨by decide +kernel, by decide +kernel⟩, Or.inl ⟨rfl, q1166⟩⟩
theorem zm135_g : zM_good zm135 := ⟨by decide +kernel, ⟨by decide +kernel, by decide +kernel⟩, Or.inl ⟨rfl, q1169⟩⟩
theorem zm136_g : zM_good zm136 := ⟨by decide +kernel, ⟨by decide +kernel, by decide +kernel⟩, Or.inl ⟨rfl, q1176⟩⟩
theorem zm137_g : zM_good zm137 := ⟨by decide +kernel, ⟨by decide +kernel, by decide +kernel⟩, Or.inl ⟨rfl, q1187⟩⟩
theorem zm138_g : zM_good zm138 := ⟨by decide +kernel, ⟨by decide +kernel, by decide +kernel⟩, Or.inl ⟨rfl, q1192⟩⟩
theorem zm139_g : zM_good zm139 := ⟨by decide +kernel, ⟨by decide +kernel, by decide +kernel⟩, Or.inl ⟨rfl, q1195⟩⟩
theorem zm140_g : zM_good zm140 := ⟨by decide +kernel, ⟨by decide +kernel, by decide +kernel⟩, Or.inl ⟨rfl, q1201⟩⟩
theorem zm141_g : zM_good zm141 := ⟨by decide +kernel, ⟨by decide +kernel, by decide +kernel⟩, Or.inl ⟨rfl, q1210⟩⟩
theorem zm142_g : zM_good zm142 := ⟨by decide +kernel, ⟨by decide +kernel, by decide +kernel⟩, Or.inl ⟨rfl, q1219⟩⟩
theorem zm143_g : zM_good zm143 := ⟨by decide +kernel, ⟨by decide +kernel, by decide +kernel⟩, Or.inl ⟨rfl, q1234⟩⟩
theorem zm144_g : zM_good zm144 := ⟨by decide +kernel, ⟨by decide +kernel, by decide +kernel⟩, Or.inl ⟨rfl, q1239⟩⟩
theorem zm145_g : zM_good zm145 := ⟨by decide +kernel, ⟨by decide +kernel, by decide +kernel⟩, Or.inl ⟨rfl, q1242⟩⟩
theorem zm146_g : zM_good zm146 := ⟨by decide +kernel, ⟨by decide +kernel, by decide +kernel⟩, Or.inl ⟨rfl, q1248⟩⟩
theorem zm147_g : zM_good zm147 := ⟨by decide +kernel, ⟨by decide +kernel, by decide +kernel⟩, Or.inl ⟨rfl, q1253⟩⟩
theorem zm148_g : zM_good zm148 := ⟨by decide +kernel, ⟨by decide +kernel, by decide +kernel⟩, Or.inl ⟨rfl, q1258⟩⟩
theorem zm149_g : zM_good zm149 := ⟨by decide +kernel, ⟨by decide +kernel, by decide +kernel⟩, Or.inl ⟨rfl, q1262⟩⟩
theorem zm150_g : zM_good zm150 := ⟨by decide +kernel, ⟨by decide +kernel, by decide +kernel⟩, Or.inl ⟨rfl, q1268⟩⟩
theorem zm151_g : zM_good zm151 := ⟨by decide +kernel, ⟨by decide +kernel, by decide +kernel⟩, Or.inl ⟨rfl, q1277⟩⟩
theorem zm152_g : zM_good zm152 := ⟨by decide +kernel, ⟨by decide +kernel, by decide +kernel⟩, Or.inl ⟨rfl, q1281⟩⟩
theorem zm153_g : zM_good zm153 := ⟨by decide +kernel, ⟨by decide +kernel, by decide +kernel⟩, Or.inl ⟨rfl, q1284⟩⟩
theorem zm154_g : zM_good zm154 := ⟨by decide +kernel, ⟨by decide +kernel, by decide +kernel⟩, Or.inl ⟨rfl, q1287⟩⟩
theorem zm155_g : zM_good zm155 := ⟨by decide +kernel, ⟨by decide +kernel, by decide +kernel⟩, Or.inr ⟨by simp [zm155], q1292⟩⟩
theorem zm156_g : zM_good zm156 := ⟨by decide +kernel, ⟨by decide +kernel, by decide +kernel⟩, Or.inl ⟨rfl, q1296⟩⟩
theorem zm157_g : zM_good zm157 := ⟨by decide +kernel, ⟨by decide +kernel, by decide +kernel⟩, Or.inr ⟨by simp [zm157], q1299⟩⟩
theorem zm158_g : zM_good zm158 := ⟨by decide +kernel, ⟨by decide +kernel, by decide +kernel⟩, Or.inl ⟨rfl, q1303⟩⟩
theorem zm159_g : zM_good zm159 := ⟨by decide +kernel, ⟨by decide +kernel, by decide +kernel⟩, Or.inl ⟨rfl, q1307⟩⟩
theorem zm160_g : zM_good zm160 := ⟨by decide +kernel, ⟨by decide +kernel, by decide +kernel⟩, Or.inl ⟨rfl, q1312⟩⟩
theorem zm161_g : zM_good zm161 := ⟨by decide +kernel, ⟨by decide +kernel, by decide +kernel⟩, Or.inr ⟨by simp [zm161], q1315⟩⟩
theorem zm162_g : zM_good zm162 := ⟨by decide +kernel, ⟨by decide +kernel, by decide +kernel⟩, Or.inl ⟨rfl, q1319⟩⟩
theorem zm163_g : zM_good zm163 := ⟨by decide +kernel, ⟨by decide +kernel, by decide +kernel⟩, Or.inl ⟨rfl, q1322⟩⟩
theorem zm164_g : zM_good zm164 := ⟨by decide +kernel, ⟨by decide +kernel, by decide +kernel⟩, Or.inl ⟨rfl, q1326⟩⟩
theorem zm165_g : zM_good zm165 := ⟨by decide +kernel, ⟨by decide +kernel, by decide +kernel⟩, Or.inl ⟨rfl, q1336⟩⟩
theorem zm166_g : zM_good zm166 := ⟨by decide +kernel, ⟨by decide +kernel, by decide +kernel⟩, Or.inl ⟨rfl, q1342⟩⟩
theorem zm167_g : zM_good zm167 := ⟨by decide +kernel, ⟨by decide +kernel, by decide +kernel⟩, Or.inr ⟨by simp [zm167], q1348⟩⟩
theorem zm168_g : zM_good zm168 := ⟨by decide +kernel, ⟨by decide +kernel, by decide +kernel⟩, Or.inl ⟨rfl, q1352⟩⟩
theorem zm169_g : zM_good zm169 := ⟨by decide +kernel, ⟨by decide +kernel, by decide +kernel⟩, Or.inr ⟨by simp [zm169], q1355⟩⟩
theorem zm170_g : zM_good zm170 := ⟨by decide +kernel, ⟨by decide +kernel, by decide +kernel⟩, Or.inl ⟨rfl, q1360⟩⟩
theorem zm171_g : zM_good zm171 := ⟨by decide +kernel, ⟨by decide +kernel, by decide +kernel⟩, Or.inl ⟨rfl, q1363⟩⟩
theorem zm172_g : zM_good zm172 := ⟨by decide +kernel, ⟨by decide +kernel, by decide +kernel⟩, Or.inr ⟨by simp [zm172], q1368⟩⟩
theorem zm173_g : zM_good zm173 := ⟨by decide +kernel, ⟨by decide +kernel, by decide +kernel⟩, Or.inl ⟨rfl, q1372⟩⟩
theorem zm174_g : zM_good zm174 := ⟨by decide +kernel, ⟨by decide +kernel, by decide +kernel⟩, Or.inr ⟨by simp [zm174], q1375⟩⟩
theorem zm175_g : zM_good zm175 := ⟨by decide +kernel, ⟨by decide +kernel, by decide +kernel⟩, Or.inl ⟨rfl, q1379⟩⟩
theorem zm176_g : zM_good zm176 := ⟨by decide +kernel, ⟨by decide +kernel, by decide +kernel⟩, Or.inr ⟨by simp [zm176], q1382⟩⟩
theorem zm177_g : zM_good zm177 := ⟨by decide +kernel, ⟨by decide +kernel, by decide +kernel⟩, Or.inl ⟨rfl, q1386⟩⟩
theorem zm178_g : zM_good zm178 := ⟨by decide +kernel, ⟨by decide +kernel, by decide +kernel⟩, Or.inr ⟨by simp [zm178], q1389⟩⟩
theorem zm179_g : zM_good zm179 := ⟨by decide +kernel, ⟨by decide +kernel, by decide +kernel⟩, Or.inl ⟨rfl, q1393⟩⟩
theorem zm180_g : zM_good zm180 := ⟨by decide +kernel, ⟨by decide +kernel, by decide +kernel⟩, Or.inr ⟨by simp [zm180], q1397⟩⟩
theorem zm181_g : zM_good zm181 := ⟨by decide +kernel, ⟨by decide +kernel, by decide +kernel⟩, Or.inl ⟨rfl, q1401⟩⟩
theorem zm182_g : zM_good zm182 := ⟨by decide +kernel, ⟨by decide +kernel, by decide +kernel⟩, Or.inr ⟨by simp [zm182], q1404⟩⟩
theorem zm183_g : zM_good zm183 := ⟨by decide +kernel, ⟨by decide +kernel, by decide +kernel⟩, Or.inr ⟨by simp [zm183], q1408⟩⟩
theorem zm184_g : zM_good zm184 := ⟨by decide +kernel, ⟨by decide +kernel, by decide +kernel⟩, Or.inl ⟨rfl, q1412⟩⟩
theorem zm185_g : zM_good zm185 := ⟨by decide +kernel, ⟨by decide +kernel, by decide +kernel⟩, Or.inr ⟨by simp [zm185], q1415⟩⟩
theorem zm186_g : zM_good zm186 := ⟨by decide +kernel, ⟨by decide +kernel, by decide +kernel⟩, Or.inl ⟨rfl, q1419⟩⟩
theorem zm187_g : zM_good zm187 := ⟨by decide +kernel, ⟨by decide +kernel, by decide +kernel⟩, Or.inr ⟨by simp [zm187], q1422⟩⟩
theorem zm188_g : zM_good zm188 := ⟨by decide +kernel, ⟨by decide +kernel, by decide +kernel⟩, Or.inl ⟨rfl, q1426⟩⟩
theorem zm189_g : zM_good zm189 := ⟨by decide +kernel, ⟨by decide +kernel, by decide +kernel⟩, Or.inl ⟨rfl, q1440⟩⟩
theorem zm190_g : zM_good zm190 := ⟨by decide +kernel, ⟨by decide +kernel, by decide +kernel⟩, Or.inl ⟨rfl, q1444⟩⟩
theorem zm191_g : zM_good zm191 := ⟨by decide +kernel, ⟨by decide +kernel, by decide +kernel⟩, Or.inr ⟨by simp [zm191], q1448⟩⟩
theorem zm192_g : zM_good zm192 := ⟨by decide +kernel, ⟨by decide +kernel, by decide +kernel⟩, Or.inl ⟨rfl, q1452⟩⟩
theorem zm193_g : zM_good zm193 := ⟨by decide +kernel, ⟨by decide +kernel, by decide +kernel⟩, Or.inl ⟨rfl, q1456⟩⟩
theorem zm194_g : zM_good zm194 := ⟨by decide +kernel, ⟨by decide +kernel, by decide +kernel⟩, Or.inl ⟨rfl, q1461⟩⟩
theorem zm195_g : zM_good zm195 := ⟨by decide +kernel, ⟨by decide +kernel, by decide +kernel⟩, Or.inl ⟨rfl, q1498⟩⟩
theorem zm196_g : zM_good zm196 := ⟨by decide +kernel, ⟨by decide +kernel, by decide +kernel⟩, Or.inl ⟨rfl, q1502⟩⟩
theorem zm197_g : zM_good zm197 := ⟨by decide +kernel, ⟨by decide +kernel, by decide +kernel⟩, Or.inl ⟨rfl, q1505⟩⟩
theorem zm198_g : zM_good zm198 := ⟨by decide +kernel, ⟨by decide +kernel, by decide +kernel⟩, Or.inl ⟨rfl, q1510⟩⟩
theorem zm199_g : zM_good zm199 := ⟨by decide +kernel, ⟨by decide +kernel, by decide +kernel⟩, Or.inl ⟨rfl, q1515⟩⟩
theorem zm200_g : zM_good zm200 := ⟨by decide +kernel, ⟨by decide +kernel, by decide +kernel⟩, Or.inl ⟨rfl, q1560⟩⟩
theorem zm201_g : zM_good zm201 := ⟨by decide +kernel, ⟨by decide +kernel, by decide +kernel⟩, Or.inl ⟨rfl, q1565⟩⟩
theorem zm202_g : zM_good zm202 := ⟨by decide +kernel, ⟨by decide +kernel, by decide +kernel⟩, Or.inl ⟨rfl, q1606⟩⟩
theorem zm203_g : zM_good zm203 := ⟨by decide +kernel, ⟨by decide +kernel, by decide +kernel⟩, Or.inl ⟨rfl, q1610⟩⟩
theorem zm204_g : zM_good zm204 := ⟨by decide +kernel, ⟨by decide +kernel, by decide +kernel⟩, Or.inl ⟨rfl, q1615⟩⟩
theorem zm205_g : zM_good zm205 := ⟨by decide +kernel, ⟨by decide +kernel, by decide +kernel⟩, Or.inl ⟨rfl, q1619⟩⟩
theorem zm206_g : zM_good zm206 := ⟨by decide +kernel, ⟨by decide +kernel, by decide +kernel⟩, Or.inl ⟨rfl, q1623⟩⟩
theorem zm207_g : zM_good zm207 := ⟨by decide +kernel, ⟨by decide +kernel, by decide +kernel⟩, Or.inl ⟨rfl, q1627⟩⟩
theorem zm208_g : zM_good zm208 := ⟨by decide +kernel, ⟨by decide +kernel, by decide +kernel⟩, Or.inl ⟨rfl, q1632⟩⟩
theorem zm209_g : zM_good zm209 := ⟨by decide +kernel, ⟨by decide +kernel, by decide +kernel⟩, Or.inl ⟨rfl, q1667⟩⟩
theorem zm210_g : zM_good zm210 := ⟨by decide +kernel, ⟨by decide +kernel, by decide +kernel⟩, Or.inl ⟨rfl, q1675⟩⟩
theorem zm211_g : zM_good zm211 := ⟨by decide +kernel, ⟨by decide +kernel, by decide +kernel⟩, Or.inl ⟨rfl, q1679⟩⟩
theorem zm212_g : zM_good zm212 := ⟨by decide +kernel, ⟨by decide +kernel, by decide +kernel⟩, Or.inl ⟨rfl, q1683⟩⟩
theorem zm213_g : zM_good zm213 := ⟨by decide +kernel, ⟨by decide +kernel, by decide +kernel⟩, Or.inl ⟨rfl, q1687⟩⟩
theorem zm214_g : zM_good zm214 := ⟨by decide +kernel, ⟨by decide +kernel, by decide +kernel⟩, Or.inl ⟨rfl, q1697⟩⟩
theorem zm215_g : zM_good zm215 := ⟨by decide +kernel, ⟨by decide +kernel, by decide +kernel⟩, Or.inl ⟨rfl, q1708⟩⟩
theorem zm216_g : zM_good zm216 := ⟨by decide +kernel, ⟨by decide +kernel, by decide +kernel⟩, Or.inl ⟨rfl, q1713⟩⟩
theorem zm217_g : zM_good zm217 := ⟨by decide +kernel, ⟨by decide +kernel, by decide +kernel⟩, Or.inl ⟨rfl, q1717⟩⟩
theorem zm218_g : zM_good zm218 := ⟨by decide +kernel, ⟨by decide +kernel, by decide +kernel⟩, Or.inl ⟨rfl, q1721⟩⟩
theorem zm219_g : zM_good zm219 := ⟨by decide +kernel, ⟨by decide +kernel, by decide +kernel⟩, Or.inl ⟨rfl, q1725⟩⟩
theorem zm220_g : zM_good zm220 := ⟨by decide +kernel, ⟨by decide +kernel, by decide +kernel⟩, Or.inl ⟨rfl, q1730⟩⟩
theorem zm221_g : zM_good zm221 := ⟨by decide +kernel, ⟨by decide +kernel, by decide +kernel⟩, Or.inl ⟨rfl, q1734⟩⟩
theorem zm222_g : zM_good zm222 := ⟨by decide +kernel, ⟨by decide +kernel, by decide +kernel⟩, Or.inl ⟨rfl, q1738⟩⟩
theorem zm223_g : zM_good zm223 := ⟨by decide +kernel, ⟨by decide +kernel, by decide +kernel⟩, Or.inl ⟨rfl, q1742⟩⟩
theorem zm224_g : zM_good zm224 := ⟨by decide +kernel, ⟨by decide +kernel, by decide +kernel⟩, Or.inl ⟨rfl, q1746⟩⟩
theorem zm225_g : zM_good zm225 := ⟨by decide +kernel, ⟨by decide +kernel, by decide +kernel⟩, Or.inl ⟨rfl, q1750⟩⟩
theorem zm226_g : zM_good zm226 := ⟨by decide +kernel, ⟨by decide +kernel, by decide +kernel⟩, Or.inl ⟨rfl, q1754⟩⟩
theorem zm227_g : zM_good zm227 := ⟨by decide +kernel, ⟨by decide +kernel, by decide +kernel⟩, Or.inl ⟨rfl, q1823⟩⟩
theorem zm228_g : zM_good zm228 := ⟨by decide +kernel, ⟨by decide +kernel, by decide +kernel⟩, Or.inl ⟨rfl, q1827⟩⟩
theorem zm229_g : zM_good zm229 := ⟨by decide +kernel, ⟨by decide +kernel, by decide +kernel⟩, Or.inl ⟨rfl, q1831⟩⟩
theorem zm230_g : zM_good zm230 := ⟨by decide +kernel, ⟨by decide +kernel, by decide +kernel⟩, Or.inl ⟨rfl, q1836⟩⟩
theorem zm231_g : zM_good zm231 := ⟨by decide +kernel, ⟨by decide +kernel, by decide +kernel⟩, Or.inl ⟨rfl, q1844⟩⟩
theorem zm232_g : zM_good zm232 := ⟨by decide +kernel, ⟨by decide +kernel, by decide +kernel⟩, Or.inl ⟨rfl, q1847⟩⟩
theorem zm233_g : zM_good zm233 := ⟨by decide +kernel, ⟨by decide +kernel, by decide +kernel⟩, Or.inl ⟨rfl, q1856⟩⟩
theorem zm234_g : zM_good zm234 := ⟨by decide +kernel, ⟨by decide +kernel, by decide +kernel⟩, Or.inl ⟨rfl, q1860⟩⟩
theorem zm235_g : zM_good zm235 := ⟨by decide +kernel, ⟨by decide +kernel, by decide +kernel⟩, Or.inl ⟨rfl, q1864⟩⟩
theorem zm236_g : zM_good zm236 := ⟨by decide +kernel, ⟨by decide +kernel, by decide +kernel⟩, Or.inl ⟨rfl, q1867⟩⟩
theorem zm237_g : zM_good zm237 := ⟨by decide +kernel, ⟨by decide +kernel, by decide +kernel⟩, Or.inl ⟨rfl, q1871⟩⟩
theorem zm238_g : zM_good zm238 := ⟨by decide +kernel, ⟨by decide +kernel, by decide +kernel⟩, Or.inl ⟨rfl, q1875⟩⟩
theorem zm239_g : zM_good zm239 := ⟨by decide +kernel, ⟨by decide +kernel, by decide +kernel⟩, Or.inl ⟨rfl, q1879⟩⟩
theorem zm240_g : zM_good zm240 := ⟨by decide +kernel, ⟨by decide +kernel, by decide +kernel⟩, Or.inl ⟨rfl, q1884⟩⟩
theorem zm241_g : zM_good zm241 := ⟨by decide +kernel, ⟨by decide +kernel, by decide +kernel⟩, Or.inl ⟨rfl, q1888⟩⟩
theorem zm242_g : zM_good zm242 := ⟨by decide +kernel, ⟨by decide +kernel, by decide +kernel⟩, Or.inl ⟨rfl, q1892⟩⟩
theorem zm243_g : zM_good zm243 := ⟨by decide +kernel, ⟨by decide +kernel, by decide +kernel⟩, Or.inl ⟨rfl, q1896⟩⟩
theorem zm244_g : zM_good zm244 := ⟨by decide +kernel, ⟨by decide +kernel, by decide +kernel⟩, Or.inl ⟨rfl, q1900⟩⟩
theorem zm245_g : zM_good zm245 := ⟨by decide +kernel, ⟨by decide +kernel, by decide +kernel⟩, Or.inl ⟨rfl, q1904⟩⟩
theorem zm246_g : zM_good zm246 := ⟨by decide +kernel, ⟨by decide +kernel, by decide +kernel⟩, Or.inl ⟨rfl, q1908⟩⟩
theorem zm247_g : zM_good zm247 := ⟨by decide +kernel, ⟨by decide +kernel, by decide +kernel⟩, Or.inl ⟨rfl, q1912⟩⟩
theorem zm248_g : zM_good zm248 := ⟨by decide +kernel, ⟨by decide +kernel, by decide +kernel⟩, Or.inl ⟨rfl, q1916⟩⟩
theorem zm249_g : zM_good zm249 := ⟨by decide +kernel, ⟨by decide +kernel, by decide +kernel⟩, Or.inl ⟨rfl, q1920⟩⟩
theorem zm250_g : zM_good zm250 := ⟨by decide +kernel, ⟨by decide +kernel, by decide +kernel⟩, Or.inl ⟨rfl, q1924⟩⟩
theorem zm251_g : zM_good zm251 := ⟨by decide +kernel, ⟨by decide +kernel, by decide +kernel⟩, Or.inl ⟨rfl, q1928⟩⟩
theorem zm252_g : zM_good zm252 := ⟨by decide +kernel, ⟨by decide +kernel, by decide +kernel⟩, Or.inl ⟨rfl, q1932⟩⟩
theorem zm253_g : zM_good zm253 := ⟨by decide +kernel, ⟨by decide +kernel, by decide +kernel⟩, Or.inl ⟨rfl, q1936⟩⟩
theorem zm254_g : zM_good zm254 := ⟨by decide +kernel, ⟨by decide +kernel, by decide +kernel⟩, Or.inl ⟨rfl, q1940⟩⟩
theorem zm255_g : zM_good zm255 := ⟨by decide +kernel, ⟨by decide +kernel, by decide +kernel⟩, Or.inl ⟨rfl, q1945⟩⟩
theorem zm256_g : zM_good zm256 := ⟨by decide +kernel, ⟨by decide +kernel, by decide +kernel⟩, Or.inl ⟨rfl, q1948⟩⟩
theorem zm257_g : zM_good zm257 := ⟨by decide +kernel, ⟨by decide +kernel, by decide +kernel⟩, Or.inl ⟨rfl, q1952⟩⟩
theorem zm258_g : zM_good zm258 := ⟨by decide +kernel, ⟨by decide +kernel, by decide +kernel⟩, Or.inl ⟨rfl, q1956⟩⟩
theorem zm259_g : zM_good zm259 := ⟨by decide +kernel, ⟨by decide +kernel, by decide +kernel⟩, Or.inl ⟨rfl, q1960⟩⟩
theorem zm260_g : zM_good zm260 := ⟨by decide +kernel, ⟨by decide +kernel, by decide +kernel⟩, Or.inl ⟨rfl, q1964⟩⟩
theorem zm261_g : zM_good zm261 := ⟨by decide +kernel, ⟨by decide +kernel, by decide +kernel⟩, Or.inl ⟨rfl, q1969⟩⟩
theorem zML_good : ∀ μ ∈ zML, zM_good μ := List.forall_mem_cons.mpr ⟨zm0_g, List.forall_mem_cons.mpr ⟨zm1_g, List.forall_mem_cons.mpr ⟨zm2_g, List.forall_mem_cons.mpr ⟨zm3_g, List.forall_mem_cons.mpr ⟨zm4_g, List.forall_mem_cons.mpr ⟨zm5_g, List.forall_mem_cons.mpr ⟨zm6_g, List.forall_mem_cons.mpr ⟨zm7_g, List.forall_mem_cons.mpr ⟨zm8_g, List.forall_mem_cons.mpr ⟨zm9_g, List.forall_mem_cons.mpr ⟨zm10_g, List.forall_mem_cons.mpr ⟨zm11_g, List.forall_mem_cons.mpr ⟨zm12_g, List.forall_mem_cons.mpr ⟨zm13_g, List.forall_mem_cons.mpr ⟨zm14_g, List.forall_mem_cons.mpr ⟨zm15_g, List.forall_mem_cons.mpr ⟨zm16_g, List.forall_mem_cons.mpr ⟨zm17_g, List.forall_mem_cons.mpr ⟨zm18_g, List.forall_mem_cons.mpr ⟨zm19_g, List.forall_mem_cons.mpr ⟨zm20_g, List.forall_mem_cons.mpr ⟨zm21_g, List.forall_mem_cons.mpr ⟨zm22_g, List.forall_mem_cons.mpr ⟨zm23_g, List.forall_mem_cons.mpr ⟨zm24_g, List.forall_mem_cons.mpr ⟨zm25_g, List.forall_mem_cons.mpr ⟨zm26_g, List.forall_mem_cons.mpr ⟨zm27_g, List.forall_mem_cons.mpr ⟨zm28_g, List.forall_mem_cons.mpr ⟨zm29_g, List.forall_mem_cons.mpr ⟨zm30_g, List.forall_mem_cons.mpr ⟨zm31_g, List.forall_mem_cons.mpr ⟨zm32_g, List.forall_mem_cons.mpr ⟨zm33_g, List.forall_mem_cons.mpr ⟨zm34_g, List.forall_mem_cons.mpr ⟨zm35_g, List.forall_mem_cons.mpr ⟨zm36_g, List.forall_mem_cons.mpr ⟨zm37_g, List.forall_mem_cons.mpr ⟨zm38_g, List.forall_mem_cons.mpr ⟨zm39_g, List.forall_mem_cons.mpr ⟨zm40_g, List.forall_mem_cons.mpr ⟨zm41_g, List.forall_mem_cons.mpr ⟨zm42_g, List.forall_mem_cons.mpr ⟨zm43_g, List.forall_mem_cons.mpr ⟨zm44_g, List.forall_mem_cons.mpr ⟨zm45_g, List.forall_mem_cons.mpr ⟨zm46_g, List.forall_mem_cons.mpr ⟨zm47_g, List.forall_mem_cons.mpr ⟨zm48_g, List.forall_mem_cons.mpr ⟨zm49_g, List.forall_mem_cons.mpr ⟨zm50_g, List.forall_mem_cons.mpr ⟨zm51_g, List.forall_mem_cons.mpr ⟨zm52_g, List.forall_mem_cons.mpr ⟨zm53_g, List.forall_mem_cons.mpr ⟨zm54_g, List.forall_mem_cons.mpr ⟨zm55_g, List.forall_mem_cons.mpr ⟨zm56_g, List.forall_mem_cons.mpr ⟨zm57_g, List.forall_mem_cons.mpr ⟨zm58_g, List.forall_mem_cons.mpr ⟨zm59_g, List.forall_mem_cons.mpr ⟨zm60_g, List.forall_mem_cons.mpr ⟨zm61_g, List.forall_mem_cons.mpr ⟨zm62_g, List.forall_mem_cons.mpr ⟨zm63_g, List.forall_mem_cons.mpr ⟨zm64_g, List.forall_mem_cons.mpr ⟨zm65_g, List.forall_mem_cons.mpr ⟨zm66_g, List.forall_mem_cons.mpr ⟨zm67_g, List.forall_mem_cons.mpr ⟨zm68_g, List.forall_mem_cons.mpr ⟨zm69_g, List.forall_mem_cons.mpr ⟨zm70_g, List.forall_mem_cons.mpr ⟨zm71_g, List.forall_mem_cons.mpr ⟨zm72_g, List.forall_mem_cons.mpr ⟨zm73_g, List.forall_mem_cons.mpr ⟨zm74_g, List.forall_mem_cons.mpr ⟨zm75_g, List.forall_mem_cons.mpr ⟨zm76_g, List.forall_mem_cons.mpr ⟨zm77_g, List.forall_mem_cons.mpr ⟨zm78_g, List.forall_mem_cons.mpr ⟨zm79_g, List.forall_mem_cons.mpr ⟨zm80_g, List.forall_mem_cons.mpr ⟨zm81_g, List.forall_mem_cons.mpr ⟨zm82_g, List.forall_mem_cons.mpr ⟨zm83_g, List.forall_mem_cons.mpr ⟨zm84_g, List.forall_mem_cons.mpr ⟨zm85_g, List.forall_mem_cons.mpr ⟨zm86_g, List.forall_mem_cons.mpr ⟨zm87_g, List.forall_mem_cons.mpr ⟨zm88_g, List.forall_mem_cons.mpr ⟨zm89_g, List.forall_mem_cons.mpr ⟨zm90_g, List.forall_mem_cons.mpr ⟨zm91_g, List.forall_mem_cons.mpr ⟨zm92_g, List.forall_mem_cons.mpr ⟨zm93_g, List.forall_mem_cons.mpr ⟨zm94_g, List.forall_mem_cons.mpr ⟨zm95_g, List.forall_mem_cons.mpr ⟨zm96_g, List.forall_mem_cons.mpr ⟨zm97_g, List.forall_mem_cons.mpr ⟨zm98_g, List.forall_mem_cons.mpr ⟨zm99_g, List.forall_mem_cons.mpr ⟨zm100_g, List.forall_mem_cons.mpr ⟨zm101_g, List.forall_mem_cons.mpr ⟨zm102_g, List.forall_mem_cons.mpr ⟨zm103_g, List.forall_mem_cons.mpr ⟨zm104_g, List.forall_mem_cons.mpr ⟨zm105_g, List.forall_mem_cons.mpr ⟨zm106_g, List.forall_mem_cons.mpr ⟨zm107_g, List.forall_mem_cons.mpr ⟨zm108_g, List.forall_mem_cons.mpr ⟨zm109_g, List.forall_mem_cons.mpr ⟨zm110_g, List.forall_mem_cons.mpr ⟨zm111_g, List.forall_mem_cons.mpr ⟨zm112_g, List.forall_mem_cons.mpr ⟨zm113_g, List.forall_mem_cons.mpr ⟨zm114_g, List.forall_mem_cons.mpr ⟨zm115_g, List.forall_mem_cons.mpr ⟨zm116_g, List.forall_mem_cons.mpr ⟨zm117_g, List.forall_mem_cons.mpr ⟨zm118_g, List.forall_mem_cons.mpr ⟨zm119_g, List.forall_mem_cons.mpr ⟨zm120_g, List.forall_mem_cons.mpr ⟨zm121_g, List.forall_mem_cons.mpr ⟨zm122_g, List.forall_mem_cons.mpr ⟨zm123_g, List.forall_mem_cons.mpr ⟨zm124_g, List.forall_mem_cons.mpr ⟨zm125_g, List.forall_mem_cons.mpr ⟨zm126_g, List.forall_mem_cons.mpr ⟨zm127_g, List.forall_mem_cons.mpr ⟨zm128_g, List.forall_mem_cons.mpr ⟨zm129_g, List.forall_mem_cons.mpr ⟨zm130_g, List.forall_mem_cons.mpr ⟨zm131_g, List.forall_mem_cons.mpr ⟨zm132_g, List.forall_mem_cons.mpr ⟨zm133_g, List.forall_mem_cons.mpr ⟨zm134_g, List.forall_mem_cons.mpr ⟨zm135_g, List.forall_mem_cons.mpr ⟨zm136_g, List.forall_mem_cons.mpr ⟨zm137_g, List.forall_mem_cons.mpr ⟨zm138_g, List.forall_mem_cons.mpr ⟨zm139_g, List.forall_mem_cons.mpr ⟨zm140_g, List.forall_mem_cons.mpr ⟨zm141_g, List.forall_mem_cons.mpr ⟨zm142_g, List.forall_mem_cons.mpr ⟨zm143_g, List.forall_mem_cons.mpr ⟨zm144_g, List.forall_mem_cons.mpr ⟨zm145_g, List.forall_mem_cons.mpr ⟨zm146_g, List.forall_mem_cons.mpr ⟨zm147_g, List.forall_mem_cons.mpr ⟨zm148_g, List.forall_mem_cons.mpr ⟨zm149_g, List.forall_mem_cons.mpr ⟨zm150_g, List.forall_mem_cons.mpr ⟨zm151_g, List.forall_mem_cons.mpr ⟨zm152_g, List.forall_mem_cons.mpr ⟨zm153_g, List.forall_mem_cons.mpr ⟨zm154_g, List.forall_mem_cons.mpr ⟨zm155_g, List.forall_mem_cons.mpr ⟨zm156_g, List.forall_mem_cons.mpr ⟨zm157_g, List.forall_mem_cons.mpr ⟨zm158_g, List.forall_mem_cons.mpr ⟨zm159_g, List.forall_mem_cons.mpr ⟨zm160_g, List.forall_mem_cons.mpr ⟨zm161_g, List.forall_mem_cons.mpr ⟨zm162_g, List.forall_mem_cons.mpr ⟨zm163_g, List.forall_mem_cons.mpr ⟨zm164_g, List.forall_mem_cons.mpr ⟨zm165_g, List.forall_mem_cons.mpr ⟨zm166_g, List.forall_mem_cons.mpr ⟨zm167_g, List.forall_mem_cons.mpr ⟨zm168_g, List.forall_mem_cons.mpr ⟨zm169_g, List.forall_mem_cons.mpr ⟨zm170_g, List.forall_mem_cons.mpr ⟨zm171_g, List.forall_mem_cons.mpr ⟨zm172_g, List.forall_mem_cons.mpr ⟨zm173_g, List.forall_mem_cons.mpr ⟨zm174_g, List.forall_mem_cons.mpr ⟨zm175_g, List.forall_mem_cons.mpr ⟨zm176_g, List.forall_mem_cons.mpr ⟨zm177_g, List.forall_mem_cons.mpr ⟨zm178_g, List.forall_mem_cons.mpr ⟨zm179_g, List.forall_mem_cons.mpr ⟨zm180_g, List.forall_mem_cons.mpr ⟨zm181_g, List.forall_mem_cons.mpr ⟨zm182_g, List.forall_mem_cons.mpr ⟨zm183_g, List.forall_mem_cons.mpr ⟨zm184_g, List.forall_mem_cons.mpr ⟨zm185_g, List.forall_mem_cons.mpr ⟨zm186_g, List.forall_mem_cons.mpr ⟨zm187_g, List.forall_mem_cons.mpr ⟨zm188_g, List.forall_mem_cons.mpr ⟨zm189_g, List.forall_mem_cons.mpr ⟨zm190_g, List.forall_mem_cons.mpr ⟨zm191_g, List.forall_mem_cons.mpr ⟨zm192_g, List.forall_mem_cons.mpr ⟨zm193_g, List.forall_mem_cons.mpr ⟨zm194_g, List.forall_mem_cons.mpr ⟨zm195_g, List.forall_mem_cons.mpr ⟨zm196_g, List.forall_mem_cons.mpr ⟨zm197_g, List.forall_mem_cons.mpr ⟨zm198_g, List.forall_mem_cons.mpr ⟨zm199_g, List.forall_mem_cons.mpr ⟨zm200_g, List.forall_mem_cons.mpr ⟨zm201_g, List.forall_mem_cons.mpr ⟨zm202_g, List.forall_mem_cons.mpr ⟨zm203_g, List.forall_mem_cons.mpr ⟨zm204_g, List.forall_mem_cons.mpr ⟨zm205_g, List.forall_mem_cons.mpr ⟨zm206_g, List.forall_mem_cons.mpr ⟨zm207_g, List.forall_mem_cons.mpr ⟨zm208_g, List.forall_mem_cons.mpr ⟨zm209_g, List.forall_mem_cons.mpr ⟨zm210_g, List.forall_mem_cons.mpr ⟨zm211_g, List.forall_mem_cons.mpr ⟨zm212_g, List.forall_mem_cons.mpr ⟨zm213_g, List.forall_mem_cons.mpr ⟨zm214_g, List.forall_mem_cons.mpr ⟨zm215_g, List.forall_mem_cons.mpr ⟨zm216_g, List.forall_mem_cons.mpr ⟨zm217_g, List.forall_mem_cons.mpr ⟨zm218_g, List.forall_mem_cons.mpr ⟨zm219_g, List.forall_mem_cons.mpr ⟨zm220_g, List.forall_mem_cons.mpr ⟨zm221_g, List.forall_mem_cons.mpr ⟨zm222_g, List.forall_mem_cons.mpr ⟨zm223_g, List.forall_mem_cons.mpr ⟨zm224_g, List.forall_mem_cons.mpr ⟨zm225_g, List.forall_mem_cons.mpr ⟨zm226_g, List.forall_mem_cons.mpr ⟨zm227_g, List.forall_mem_cons.mpr ⟨zm228_g, List.forall_mem_cons.mpr ⟨zm229_g, List.forall_mem_cons.mpr ⟨zm230_g, List.forall_mem_cons.mpr ⟨zm231_g, List.forall_mem_cons.mpr ⟨zm232_g, List.forall_mem_cons.mpr ⟨zm233_g, List.forall_mem_cons.mpr ⟨zm234_g, List.forall_mem_cons.mpr ⟨zm235_g, List.forall_mem_cons.mpr ⟨zm236_g, List.forall_mem_cons.mpr ⟨zm237_g, List.forall_mem_cons.mpr ⟨zm238_g, List.forall_mem_cons.mpr ⟨zm239_g, List.forall_mem_cons.mpr ⟨zm240_g, List.forall_mem_cons.mpr ⟨zm241_g, List.forall_mem_cons.mpr ⟨zm242_g, List.forall_mem_cons.mpr ⟨zm243_g, List.forall_mem_cons.mpr ⟨zm244_g, List.forall_mem_cons.mpr ⟨zm245_g, List.forall_mem_cons.mpr ⟨zm246_g, List.forall_mem_cons.mpr ⟨zm247_g, List.forall_mem_cons.mpr ⟨zm248_g, List.forall_mem_cons.mpr ⟨zm249_g, List.forall_mem_cons.mpr ⟨zm250_g, List.forall_mem_cons.mpr ⟨zm251_g, List.forall_mem_cons.mpr ⟨zm252_g, List.forall_mem_cons.mpr ⟨zm253_g, List.forall_mem_cons.mpr ⟨zm254_g, List.forall_mem_cons.mpr ⟨zm255_g, List.forall_mem_cons.mpr ⟨zm256_g, List.forall_mem_cons.mpr ⟨zm257_g, List.forall_mem_cons.mpr ⟨zm258_g, List.forall_mem_cons.mpr ⟨zm259_g, List.forall_mem_cons.mpr ⟨zm260_g, List.forall_mem_cons.mpr ⟨zm261_g, fun _ h => absurd h List.not_mem_nil⟩⟩⟩⟩⟩⟩⟩⟩⟩⟩⟩⟩⟩⟩⟩⟩⟩⟩⟩⟩⟩⟩⟩⟩⟩⟩⟩⟩⟩⟩⟩⟩⟩⟩⟩⟩⟩⟩⟩⟩⟩⟩⟩⟩⟩⟩⟩⟩⟩⟩⟩⟩⟩⟩⟩⟩⟩⟩⟩⟩⟩⟩⟩⟩⟩⟩⟩⟩⟩⟩⟩⟩⟩⟩⟩⟩⟩⟩⟩⟩⟩⟩⟩⟩⟩⟩⟩⟩⟩⟩⟩⟩⟩⟩⟩⟩⟩⟩⟩⟩⟩⟩⟩⟩⟩⟩⟩⟩⟩⟩⟩⟩⟩⟩⟩⟩⟩⟩⟩⟩⟩⟩⟩⟩⟩⟩⟩⟩⟩⟩⟩⟩⟩⟩⟩⟩⟩⟩⟩⟩⟩⟩⟩⟩⟩⟩⟩⟩⟩⟩⟩⟩⟩⟩⟩⟩⟩⟩⟩⟩⟩⟩⟩⟩⟩⟩⟩⟩⟩⟩⟩⟩⟩⟩⟩⟩⟩⟩⟩⟩⟩⟩⟩⟩⟩⟩⟩⟩⟩⟩⟩⟩⟩⟩⟩⟩⟩⟩⟩⟩⟩⟩⟩⟩⟩⟩⟩⟩⟩⟩⟩⟩⟩⟩⟩⟩⟩⟩⟩⟩⟩⟩⟩⟩⟩⟩⟩⟩⟩⟩⟩⟩⟩⟩⟩⟩⟩⟩⟩⟩⟩⟩⟩⟩⟩⟩⟩⟩⟩⟩⟩⟩⟩⟩⟩⟩⟩⟩⟩⟩⟩⟩
